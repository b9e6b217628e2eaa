/-! WALKS, 94b: a town read, the model takes it -/
set_option maxRecDepth 100000
set_option maxHeartbeats 4000000
theorem TownM.low {B B' t : Int} {h : XH} {T : XTw} (hb : B ≤ B') (X : TownM h B' t T) : TownM h B t T := by
  obtain ⟨s1, ⟨⟨a1, a2, a3, a4, a5, a6⟩, b1, b2, b3, b4, b5, b6, b7⟩, r⟩ := X
  exact ⟨s1.low hb, ⟨⟨a1.low hb, a2.low hb, a3.low hb, a4.low hb, a5.low hb, a6.low hb⟩, b1.low hb, b2.low hb, b3.low hb, b4.low hb, b5.low hb, b6.low hb, b7.low hb⟩, r⟩
theorem m_tail {d : Nat} {g : XH} {B m t w k0 : Int} {T : XTw} (bnd : 1 ≤ m ∧ m + 16 ≤ B) (L : ModelL g m) (f72 : xfl g m 72 = 0) (f78 : xfl g m 78 = 0) (f70 : xfl g m 70 = t) (X : TownM g B t T) (O : TOK T) (f146 : xfl g t 146 = w) (wB : B ≤ w ∧ w < xsz g) (tw : xty g w = some (true, 0, some 7)) (dawn : ∀ i : Int, 0 ≤ i → i < tnh T → xar g w i = thv T 3 i) : Wp (d + 1) 141 89 [some (.inr (.inr m)), some (.inl k0), none] [] g (XRet fun v h' => v = some (.inl (tnh T)) ∧ Rm h' B m (some T, V0 T, [], [], (0, -1, 0), []) ∧ XFr (MW m) (MA m) g h' ∧ xsz h' = xsz g ∧ xsl h' = xsl g) := by
  have hn := O.2.2.1
  have hp := O.2.2.2.1
  have zB : B ≤ xsz g := by omega
  let J : XH → Prop := fun h => XFr (fun z f => z = m ∧ f = 69) (fun z => z = m + 2) g h ∧ xsz h = xsz g ∧ xsl h = xsl g ∧ xfl h m 69 = t
  have facts : ∀ h, J h → xty h m = some (true, 9, none) ∧ (xty h (m + 2) = some (true, 0, some 16) ∧ xfl h m 81 = m + 2) ∧ TownM h B t T ∧ xfl h t 146 = w ∧ xty h w = some (true, 0, some 7) ∧ ∀ i : Int, 0 ≤ i → i < tnh T → xar h w i = thv T 3 i := fun h j => by
    have LL : ModelL h m := L.keep j.1 (by omega) (fun f hf q => by rw [q.2] at hf; cases hf)
    refine ⟨LL.1, LL.2.2.1, X.keep (Above.of j.1 (fun z f hz _ _ q => by omega) (fun z hz q => by omega)), ?_, (j.1.2.2.1 _ wB.2).trans tw, fun i i0 i1 => ?_⟩
    · have := X.1.1
      exact (j.1.2.2.2.1 _ _ X.1.2.1 (fun q => by omega)).trans f146
    · exact (j.1.2.2.2.2 _ _ wB.2 (fun q => by omega)).trans (dawn i i0 i1)
  have jp : ∀ h i v, J h → J (xputa h (m + 2) i v) := fun h i v j => ⟨j.1.puta (Or.inr rfl), j.2⟩
  let Fin : XO → XH → Prop := XRet fun v h' => v = some (.inl (tnh T)) ∧ Rm h' B m (some T, V0 T, [], [], (0, -1, 0), []) ∧ XFr (MW m) (MA m) g h' ∧ xsz h' = xsz g ∧ xsl h' = xsl g
  have last : ∀ (h : XH) (l2 : Option XV), J h → (∀ i : Int, 0 ≤ i → i < 8 → xar h (m + 2) i = V0 T i) → (∀ q : Int, 0 ≤ q → q < tpm T → xar h (m + 2) (8 + q) = V0 T (8 + q)) → (∀ i : Int, 12 ≤ i → i < 16 → xar h (m + 2) i = 0) → Wp (d + 1) 141 202 [some (.inr (.inr m)), some (.inl k0), l2] [] h Fin := by
    intro h l2 j v1 v2 v3
    obtain ⟨tm, -, XT, -, -, -⟩ := facts h j
    have LL : ModelL h m := L.keep j.1 (by omega) (fun f hf q => by rw [q.2] at hf; cases hf)
    obtain ⟨-, -, -, -, -, -, -, -, -, -, -, -, -, -, -, t15, f103⟩ := LL
    refine Wp.vc 400 [] rfl ?_
    refine Wp.callR (j := 0) rfl (Nat.le_of_ble_eq_true rfl) ⟨true, tm⟩ (m_lays (d := d) (B := B) tm j.2.2.2 XT O t15 f103 ⟨by omega, by omega⟩) (fun v h6 q => ?_)
    obtain ⟨rfl, far, p6, z6, l6⟩ := q
    have LL : ModelL h m := L.keep j.1 (by omega) (fun f hf q => by rw [q.2] at hf; cases hf)
    have L6 : ModelL h6 m := LL.keep p6 (by omega) (fun f hf q => q)
    have tm6 := L6.1
    have X6 : TownM h6 B t T := XT.keep (Above.of p6 (fun z f hz _ _ q => q) (fun z hz q => by omega))
    have f6 : ∀ f, xfl h6 m f = xfl h m f := fun f => p6.2.2.2.1 m f (by omega) (fun q => q)
    have fh : ∀ f, f ≠ 69 → xfl h m f = xfl g m f := fun f hf => j.1.2.2.2.1 m f (by omega) (fun q => hf q.2)
    have a6 : ∀ i, xar h6 (m + 2) i = xar h (m + 2) i := fun i => p6.2.2.2.2 _ i (by omega) (fun q => by omega)
    obtain ⟨h7, hh7⟩ : ∃ h7, h7 = xputf (xputf h6 m 84 0) m 85 0 := ⟨_, rfl⟩
    have p7 : XFr (fun z f => z = m ∧ (f = 84 ∨ f = 85)) (fun _ => False) h6 h7 := by
      rw [hh7]
      exact ((XFr.refl h6).putf (Or.inr ⟨rfl, Or.inl rfl⟩)).putf (Or.inr ⟨rfl, Or.inr rfl⟩)
    have f7 : ∀ f, f ≠ 84 → f ≠ 85 → xfl h7 m f = xfl h6 m f := fun f a b => p7.2.2.2.1 m f (by omega) (fun q => by omega)
    have f84 : xfl h7 m 84 = 0 := by rw [hh7, pf_ne (by decide), pf_eq]
    have f85 : xfl h7 m 85 = 0 := by rw [hh7, pf_eq]
    have L7 : ModelL h7 m := L6.keep p7 (by omega) (fun f hf q => by rcases q.2 with e | e <;> rw [e] at hf <;> cases hf)
    have X7 : TownM h7 B t T := X6.keep (Above.of p7 (fun z f hz _ _ q => by omega) (fun z hz q => q))
    have a7 : ∀ z i, z < xsz h6 → xar h7 z i = xar h6 z i := fun z i hz => p7.2.2.2.2 _ i hz (fun q => q)
    have z7 : xsz h7 = xsz g := by
      have : xsz h7 = xsz h6 := by rw [hh7]; rfl
      have := j.2.1
      omega
    have l7 : xsl h7 = xsl g := by
      have : xsl h7 = xsl h6 := by rw [hh7]; rfl
      have := j.2.2.1
      omega
    have g69 : xfl h7 m 69 = t := (f7 _ (by decide) (by decide)).trans ((f6 _).trans j.2.2.2)
    have f135 : xfl h7 t 135 = tnh T := X7.2.2.1.2.2.1
    have R7 : Rm h7 B m (some T, V0 T, [], [], (xfl h7 m 67, xfl h7 m 68, 0), []) := by
      refine ⟨⟨bnd.1, bnd.2, by omega⟩, L7, ⟨?_, fun i hi => absurd hi (Nat.not_lt_zero _)⟩, ⟨rfl, rfl, ?_⟩, ⟨f85, f84⟩, ?_⟩
      · exact (f7 _ (by decide) (by decide)).trans ((f6 _).trans ((fh _ (by decide)).trans f72))
      · exact (f7 _ (by decide) (by decide)).trans ((f6 _).trans ((fh _ (by decide)).trans f78))
      · show TownM h7 B (xfl h7 m 69) T ∧ _
        rw [g69]
        refine ⟨X7, fun i i0 i1 => (a7 _ _ (by omega)).trans ((a6 _).trans (v1 i i0 i1)), fun q q0 q1 => ⟨(a7 _ _ (by omega)).trans ((a6 _).trans (v2 q q0 q1)), (a7 _ _ (by omega)).trans ((a6 _).trans ((v3 (12 + q) (by omega) (by omega)).trans ?_))⟩, fun k V hk => ?_, fun k V hk => ?_, ?_⟩
        · show 0 = V0 T (12 + q)
          unfold V0
          rw [if_neg (by omega), if_neg (by omega), if_neg (by omega)]
        · have hk : ([] : List (Int → Int))[k]? = some V := hk
          simp at hk
        · have hk : ([] : List (Int → Int))[k]? = some V := hk
          simp at hk
        · have e : xar h7 (m + 15) = xar h6 (m + 15) := funext fun i => a7 _ i (by omega)
          rw [e]
          exact far
    have pg : XFr (MW m) (MA m) g h7 := ((j.1.mono (fun z f _ q => ⟨q.1, by rw [q.2]; rfl⟩) (fun z _ q => (by have q : z = m + 2 := q; exact ⟨by omega, by omega⟩) : ∀ z, z < xsz g → z = m + 2 → MA m z)).trans p6 (fun z f _ q => q.elim) (fun z _ q => (by have q : z = m + 15 := q; exact ⟨by omega, by omega⟩))).trans p7 (fun z f _ q => ⟨q.1, by rcases q.2 with e | e <;> rw [e] <;> rfl⟩) (fun z _ q => q.elim)
    refine Wp.vc 400 [] rfl ?_
    rw [← hh7, g69, f135]
    clear hh7
    refine ⟨isW tm6 rfl, isW tm6 rfl, isF L7.1 rfl, isF X7.1.2.2 rfl, ?_⟩
    refine Wp.callR (j := 0) rfl (Nat.le_of_ble_eq_true rfl) ⟨true, L7.1⟩ (m_good R7) (fun v h8 q => ?_)
    obtain ⟨rfl, R8, p8, z8, l8⟩ := q
    refine Wp.vc 400 [] rfl ?_
    exact ⟨trivial, _, rfl, rfl, R8, pg.trans p8 (fun z f _ q => w678_mw z f q) (fun _ _ q => q.elim), by omega, by omega⟩
  have thr : ∀ (k : Int) (h : XH), k ≤ tpm T → (0 ≤ k ∧ J h ∧ (∀ i : Int, 0 ≤ i → i < 8 → xar h (m + 2) i = V0 T i) ∧ (∀ q : Int, 0 ≤ q → q < k → xar h (m + 2) (8 + q) = V0 T (8 + q)) ∧ ∀ i : Int, 12 ≤ i → i < 16 → xar h (m + 2) i = 0) → Wp (d + 1) 141 167 [some (.inr (.inr m)), some (.inl k0), some (.inl k)] [] h Fin := by
    refine loopUp (G := fun k h => Wp (d + 1) 141 167 [some (.inr (.inr m)), some (.inl k0), some (.inl k)] [] h Fin) (tpm T) ?_ ?_
    · rintro k h ⟨a0, j, v1, v2, v3⟩ hk ih
      obtain ⟨tm, ⟨t2, f81⟩, XT, -, -, -⟩ := facts h j
      have f139 : xfl h t 139 = tpm T := XT.2.2.1.2.2.2.2.2.1
      have c152 := XT.2.1.2.2.2.1
      have e152 : xar h (xfl h t 152) k = thv T 8 k := (XT.2.2.2.2.1 k a0 hk).2
      have v8 : V0 T (8 + k) = thv T 8 k := by
        unfold V0
        rw [if_neg (by omega), if_neg (by omega), if_pos (by omega), show 8 + k - 8 = k by omega]
      have nx := ih (xputa h (m + 2) (8 + k) (thv T 8 k)) ⟨by omega, jp _ _ _ j, fun i i0 i1 => by rw [pa_eq, if_neg (by omega)]; exact v1 i i0 i1, fun q q0 q1 => by
        rw [pa_eq]
        by_cases e : q = k
        · rw [if_pos (by omega), e, v8]
        · rw [if_neg (by omega)]
          exact v2 q q0 (by omega), fun i i0 i1 => by rw [pa_eq, if_neg (by omega)]; exact v3 i i0 i1⟩
      refine Wp.vc 400 [167, 202] rfl ?_
      rw [j.2.2.2, f139, f81, e152]
      exact ⟨isF tm rfl, isF XT.1.2.2 rfl, fun q => absurd q (by omega), fun _ => ⟨isF tm rfl, ⟨by omega, by omega⟩, isF tm rfl, isF XT.1.2.2 rfl, isA c152.2.2 a0 (by omega), isB t2 (by omega) (by omega), ⟨by omega, by omega⟩, nx⟩⟩
    · rintro h ⟨a0, j, v1, v2, v3⟩
      obtain ⟨tm, ⟨t2, f81⟩, XT, -, -, -⟩ := facts h j
      have f139 : xfl h t 139 = tpm T := XT.2.2.1.2.2.2.2.2.1
      have a := last h (some (.inl (tpm T))) j v1 v2 v3
      refine Wp.vc 400 [178, 202] rfl ?_
      rw [j.2.2.2, f139]
      exact ⟨isF tm rfl, isF XT.1.2.2 rfl, fun _ => a, fun q => absurd (Int.le_refl _) q⟩
  have two : ∀ (k : Int) (h : XH), k ≤ 7 → (0 ≤ k ∧ J h ∧ (∀ i : Int, 0 ≤ i → i < k → xar h (m + 2) i = V0 T i) ∧ ∀ i : Int, k ≤ i → i < 16 → xar h (m + 2) i = 0) → Wp (d + 1) 141 120 [some (.inr (.inr m)), some (.inl k0), some (.inl k)] [] h Fin := by
    refine loopUp (G := fun k h => Wp (d + 1) 141 120 [some (.inr (.inr m)), some (.inl k0), some (.inl k)] [] h Fin) 7 ?_ ?_
    · rintro k h ⟨a0, j, v1, v2⟩ hk ih
      obtain ⟨tm, ⟨t2, f81⟩, XT, f146, tw, dw⟩ := facts h j
      have f135 : xfl h t 135 = tnh T := XT.2.2.1.2.2.1
      have fin : ∀ v, v = V0 T k → J (xputa h (m + 2) k v) ∧ (∀ i : Int, 0 ≤ i → i < k + 1 → xar (xputa h (m + 2) k v) (m + 2) i = V0 T i) ∧ ∀ i : Int, k + 1 ≤ i → i < 16 → xar (xputa h (m + 2) k v) (m + 2) i = 0 := fun v hv => ⟨jp _ _ _ j, fun i i0 i1 => by
        rw [pa_eq]
        by_cases e : i = k
        · rw [if_pos e, hv, e]
        · rw [if_neg e]
          exact v1 i i0 (by omega), fun i i0 i1 => by rw [pa_eq, if_neg (by omega)]; exact v2 i (by omega) i1⟩
      refine Wp.vc 400 [120, 165] rfl ?_
      rw [j.2.2.2, f135, f81, f146, Int.zero_add]
      refine ⟨fun q => absurd q (by omega), fun _ => ⟨isF tm rfl, ⟨by omega, by omega⟩, isF tm rfl, isF XT.1.2.2 rfl, fun c => ⟨isB t2 a0 (by omega), ⟨by omega, by omega⟩, ?_⟩, fun c => ⟨isF tm rfl, isF XT.1.2.2 rfl, isA tw a0 hk, isB t2 a0 (by omega), ⟨by omega, by omega⟩, ?_⟩⟩⟩
      · have f := fin (-2) (by unfold V0; rw [if_pos hk, if_neg (by omega)])
        exact ih _ ⟨by omega, f⟩
      · have f := fin (xar h w k) (by unfold V0; rw [if_pos hk, if_pos (by omega)]; exact dw k a0 (by omega))
        exact ih _ ⟨by omega, f⟩
    · rintro h ⟨a0, j, v1, v2⟩
      have nx := thr 0 h (by omega) ⟨Int.le_refl _, j, fun i i0 i1 => by
        by_cases e : i < 7
        · exact v1 i i0 e
        · rw [v2 i (by omega) (by omega)]
          unfold V0
          rw [if_neg e, if_pos (by omega)], fun q q0 q1 => by omega, fun i i0 i1 => v2 i (by omega) i1⟩
      refine Wp.vc 400 [167, 126] rfl ?_
      exact ⟨fun _ => nx, fun q => absurd (Int.le_refl _) q⟩
  have one : ∀ (k : Int) (h : XH), k ≤ 16 → (0 ≤ k ∧ J h ∧ ∀ i : Int, 0 ≤ i → i < k → xar h (m + 2) i = 0) → Wp (d + 1) 141 99 [some (.inr (.inr m)), some (.inl k0), some (.inl k)] [] h Fin := by
    refine loopUp (G := fun k h => Wp (d + 1) 141 99 [some (.inr (.inr m)), some (.inl k0), some (.inl k)] [] h Fin) 16 ?_ ?_
    · rintro k h ⟨a0, j, v1⟩ hk ih
      obtain ⟨tm, ⟨t2, f81⟩, -, -, -, -⟩ := facts h j
      have nx := ih (xputa h (m + 2) k 0) ⟨by omega, jp _ _ _ j, fun i i0 i1 => by
        rw [pa_eq]
        by_cases e : i = k
        · rw [if_pos e]
        · rw [if_neg e]
          exact v1 i i0 (by omega)⟩
      refine Wp.vc 400 [99, 118] rfl ?_
      rw [f81]
      exact ⟨fun q => absurd q (by omega), fun _ => ⟨isF tm rfl, isB t2 a0 hk, ⟨by omega, by omega⟩, nx⟩⟩
    · rintro h ⟨a0, j, v1⟩
      have nx := two 0 h (by omega) ⟨Int.le_refl _, j, fun i i0 i1 => by omega, v1⟩
      refine Wp.vc 400 [105, 120] rfl ?_
      exact ⟨fun _ => nx, fun q => absurd (Int.le_refl _) q⟩
  have J0 : J (xputf g m 69 t) := ⟨(XFr.refl g).putf (Or.inr ⟨rfl, rfl⟩), rfl, rfl, pf_eq⟩
  have k0 := one 0 _ (by decide) ⟨Int.le_refl _, J0, fun i i0 i1 => by omega⟩
  have tm := L.1
  refine Wp.vc 400 [99] rfl ?_
  rw [f70]
  exact ⟨isF tm rfl, isW tm rfl, k0⟩
