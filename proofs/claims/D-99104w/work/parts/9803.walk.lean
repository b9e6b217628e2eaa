/-! WALKS, 42: whose room it is: WrongRoom's tries -/
set_option maxRecDepth 100000
set_option maxHeartbeats 4000000
theorem msk_dec4 : ∀ (u : Fin 128) (k j : Fin 7), ¬ xbit (u.val : Int) (k.val : Int) → (xbit ((u.val : Int) + 2 ^ k.val) (j.val : Int) ↔ (j = k ∨ xbit (u.val : Int) (j.val : Int))) := by decide +kernel
theorem msk_dec5 : ∀ (n : Fin 8) (u : Fin 128) (k : Fin 7), (u.val : Int) < 2 ^ n.val → n.val ≤ k.val → ¬ xbit (u.val : Int) (k.val : Int) := by decide +kernel
theorem msk_dec6 : ∀ (u : Fin 128) (k : Fin 7), xbit (u.val : Int) (k.val : Int) → xor_ (u.val : Int) (1 * 2 ^ k.val) = (u.val : Int) := by decide +kernel
theorem bit_add {u k j : Int} (u0 : 0 ≤ u ∧ u < 128) (k0 : 0 ≤ k ∧ k < 7) (j0 : 0 ≤ j ∧ j < 7) (h : ¬ xbit u k) : xbit (u + 2 ^ k.toNat) j ↔ (j = k ∨ xbit u j) := by
  have e1 : ((u.toNat : Nat) : Int) = u := by omega
  have e2 : ((k.toNat : Nat) : Int) = k := by omega
  have e3 : ((j.toNat : Nat) : Int) = j := by omega
  have d := msk_dec4 ⟨u.toNat, by omega⟩ ⟨k.toNat, by omega⟩ ⟨j.toNat, by omega⟩ (by simp only [e1, e2]; exact h)
  simp only [e1, e3] at d
  rw [d]
  constructor
  · rintro (w | w)
    · left
      have := congrArg Fin.val w
      simp at this
      omega
    · exact Or.inr w
  · rintro (w | w)
    · left
      apply Fin.ext
      show j.toNat = k.toNat
      omega
    · exact Or.inr w
theorem bit_or {u k : Int} (u0 : 0 ≤ u ∧ u < 128) (k0 : 0 ≤ k ∧ k < 7) (h : xbit u k) : xor_ u (1 * 2 ^ k.toNat) = u := by
  have e1 : ((u.toNat : Nat) : Int) = u := by omega
  have e2 : ((k.toNat : Nat) : Int) = k := by omega
  have d := msk_dec6 ⟨u.toNat, by omega⟩ ⟨k.toNat, by omega⟩ (by simp only [e1, e2]; exact h)
  simp only [e1] at d
  exact d
theorem bit_high {u n k : Int} (n0 : 0 ≤ n ∧ n ≤ 7) (u0 : 0 ≤ u ∧ u < 2 ^ n.toNat) (k0 : n ≤ k ∧ k < 7) : ¬ xbit u k := by
  have h5 := two_pow7 n0
  have e1 : ((u.toNat : Nat) : Int) = u := by omega
  have e2 : ((k.toNat : Nat) : Int) = k := by omega
  have d := msk_dec5 ⟨n.toNat, by omega⟩ ⟨u.toNat, by omega⟩ ⟨k.toNat, by omega⟩ (by show ((u.toNat : Nat) : Int) < 2 ^ n.toNat; omega) (by show n.toNat ≤ k.toNat; omega)
  simp only [e1, e2] at d
  exact d
theorem xset_bit {p : Int → Bool} : ∀ (n : Nat), n ≤ 7 → ∀ k : Int, 0 ≤ k → k < n → (xbit (xset_ p n) k ↔ p k = true) := by
  intro n
  induction n with
  | zero => intro _ k a b; omega
  | succ n ih =>
    intro hn k k0 k1
    have r := xset_rg p n
    have r7 := two_pow7 (n := (n : Int)) ⟨by omega, by omega⟩
    rw [show ((n : Int)).toNat = n by omega] at r7
    show xbit (xset_ p n + (if p n = true then 2 ^ n else 0)) k ↔ p k = true
    have hi : ¬ xbit (xset_ p n) (n : Int) := bit_high (n := (n : Int)) ⟨by omega, by omega⟩ (by rw [show ((n : Int)).toNat = n by omega]; exact r) ⟨Int.le_refl _, by omega⟩
    by_cases c : p n = true
    · rw [if_pos c]
      have ba := bit_add (u := xset_ p n) (k := (n : Int)) (j := k) ⟨r.1, by omega⟩ ⟨by omega, by omega⟩ ⟨k0, by omega⟩ hi
      rw [show ((n : Int)).toNat = n by omega] at ba
      rw [ba]
      by_cases e : k = n
      · rw [e]
        exact ⟨fun _ => c, fun _ => Or.inl rfl⟩
      · rw [← ih (by omega) k k0 (by omega)]
        exact ⟨fun w => w.resolve_left e, fun w => Or.inr w⟩
    · rw [if_neg c, Int.add_zero]
      by_cases e : k = n
      · rw [e]
        exact ⟨fun w => absurd w hi, fun w => absurd w c⟩
      · exact ih (by omega) k k0 (by omega)
theorem xset_ins {p q : Int → Bool} {g : Int} (g0 : 0 ≤ g) (hp : p g = false) (hq : q g = true) (h : ∀ k : Int, k ≠ g → q k = p k) : ∀ n : Nat, g < n → xset_ q n = xset_ p n + 2 ^ g.toNat := by
  intro n
  induction n with
  | zero => intro w; omega
  | succ n ih =>
    intro w
    show xset_ q n + (if q n = true then 2 ^ n else 0) = xset_ p n + (if p n = true then 2 ^ n else 0) + 2 ^ g.toNat
    by_cases e : g = n
    · have e0 : xset_ q n = xset_ p n := xset_congr n fun i hi => h i (by omega)
      rw [e0, ← e, hp, hq, if_pos rfl, if_neg (by decide), show g.toNat = n by omega]
      omega
    · rw [ih (by omega), h n (by omega)]
      omega
def xupd (ρ : Int → Int) (i g : Int) : Int → Int := fun j => if j = i then g else ρ j
/-- all rows, by houses -/
noncomputable def rwf (T : XTw) (V : Int → Int) : Nat → Int → Int → (Int → Int) → List (Int → Int)
  | 0, _, _, ρ => [ρ]
  | f + 1, i, u, ρ => if V i = -2 then (nds (tnh T)).flatMap fun g => @ite _ (xbit u g ∨ ¬ mayB T i g) (Classical.propDecidable _) [] (rwf T V f (i + 1) (u + 2 ^ g.toNat) (xupd ρ i g)) else rwf T V f (i + 1) u ρ
noncomputable def rwk (T : XTw) (V : Int → Int) (f : Nat) (i u : Int) (ρ : Int → Int) (g : Int) : List (Int → Int) := @ite _ (xbit u g ∨ ¬ mayB T i g) (Classical.propDecidable _) [] (rwf T V f (i + 1) (u + 2 ^ g.toNat) (xupd ρ i g))
theorem rwf_free {T : XTw} {V : Int → Int} {f : Nat} {i u : Int} {ρ : Int → Int} (h : V i = -2) : rwf T V (f + 1) i u ρ = (nds (tnh T)).flatMap (rwk T V f i u ρ) := if_pos h
theorem rwf_known {T : XTw} {V : Int → Int} {f : Nat} {i u : Int} {ρ : Int → Int} (h : V i ≠ -2) : rwf T V (f + 1) i u ρ = rwf T V f (i + 1) u ρ := if_neg h
theorem rwk_no {T : XTw} {V : Int → Int} {f : Nat} {i u g : Int} {ρ : Int → Int} (h : xbit u g ∨ ¬ mayB T i g) : rwk T V f i u ρ g = [] := if_pos h
theorem rwk_yes {T : XTw} {V : Int → Int} {f : Nat} {i u g : Int} {ρ : Int → Int} (h : ¬ xbit u g) (h2 : mayB T i g) : rwk T V f i u ρ g = rwf T V f (i + 1) (u + 2 ^ g.toNat) (xupd ρ i g) := if_neg (fun w => w.elim h (fun w => w h2))
theorem flat_len {α β : Type} {f : α → List β} {K : Nat} : ∀ l : List α, (∀ a ∈ l, (f a).length ≤ K) → (l.flatMap f).length ≤ l.length * K := by
  intro l
  induction l with
  | nil => intro _; simp
  | cons a l ih =>
    intro h
    rw [List.flatMap_cons, List.length_append, List.length_cons, Nat.succ_mul]
    have h1 := h a List.mem_cons_self
    have h2 := ih fun b hb => h b (List.mem_cons_of_mem _ hb)
    omega
theorem rwf_len {T : XTw} {V : Int → Int} (hn : tnh T ≤ 7) : ∀ (f : Nat) (i u : Int) (ρ : Int → Int), (rwf T V f i u ρ).length ≤ 7 ^ f := by
  intro f
  induction f with
  | zero => intro i u ρ; exact Nat.le_refl 1
  | succ f ih =>
    intro i u ρ
    by_cases c : V i = -2
    · rw [rwf_free c]
      have := flat_len (K := 7 ^ f) (f := rwk T V f i u ρ) (nds (tnh T)) fun g _ => by
        unfold rwk
        split
        · exact Nat.zero_le _
        · exact ih _ _ _
      rw [nds_len] at this
      have h2 : (tnh T).toNat * 7 ^ f ≤ 7 * 7 ^ f := Nat.mul_le_mul_right _ (by omega)
      rw [Nat.pow_succ]
      omega
    · rw [rwf_known c]
      have := ih (i + 1) u ρ
      have h2 : 7 ^ f ≤ 7 ^ (f + 1) := Nat.pow_le_pow_right (by decide) (Nat.le_succ _)
      omega
/-- how often a room is of one, of these rows -/
def cntL (L : List (Int → Int)) (i g : Int) : Int := ((L.filter fun r => decide (r i = g)).length : Int)
theorem cntL_app {L : List (Int → Int)} {ρ : Int → Int} {i g : Int} : cntL (L ++ [ρ]) i g = cntL L i g + if ρ i = g then 1 else 0 := by
  unfold cntL
  rw [List.filter_append, List.length_append]
  by_cases c : ρ i = g
  · rw [if_pos c, List.filter_cons, if_pos (by simpa using c)]
    rfl
  · rw [if_neg c, List.filter_cons, if_neg (by simpa using c)]
    rfl
theorem cntL_rg {L : List (Int → Int)} {i g : Int} : 0 ≤ cntL L i g ∧ cntL L i g ≤ (L.length : Int) := by
  unfold cntL
  have := List.length_filter_le (fun r : Int → Int => decide (r i = g)) L
  omega
def couS (L : List (Int → Int)) (n i : Int) : Int := xset_ (fun g => decide (0 < cntL L i g)) n.toNat
theorem couS_rg {L : List (Int → Int)} {n i : Int} (n0 : 0 ≤ n ∧ n ≤ 7) : 0 ≤ couS L n i ∧ couS L n i < 128 := by
  have h1 := xset_rg (fun g => decide (0 < cntL L i g)) n.toNat
  have h2 := two_pow7 n0
  unfold couS
  omega
theorem couS_app {L : List (Int → Int)} {ρ : Int → Int} {n i : Int} (n0 : 0 ≤ n ∧ n ≤ 7) (g0 : 0 ≤ ρ i ∧ ρ i < n) : xor_ (couS L n i) (1 * 2 ^ (ρ i).toNat) = couS (L ++ [ρ]) n i := by
  have rg := couS_rg (L := L) (i := i) n0
  have bt := xset_bit (p := fun g => decide (0 < cntL L i g)) n.toNat (by omega) (ρ i) g0.1 (by omega)
  have ap : ∀ g, cntL (L ++ [ρ]) i g = cntL L i g + if ρ i = g then 1 else 0 := fun g => cntL_app
  have cr : ∀ g, 0 ≤ cntL L i g := fun g => cntL_rg.1
  by_cases c : 0 < cntL L i (ρ i)
  · rw [bit_or rg ⟨g0.1, by omega⟩ (bt.mpr (by simpa using c))]
    refine xset_congr _ fun k hk => ?_
    show decide (0 < cntL L i (k : Int)) = decide (0 < cntL (L ++ [ρ]) i (k : Int))
    rw [ap]
    have := cr (k : Int)
    by_cases e : ρ i = (k : Int)
    · rw [if_pos e, ← e]
      simp [c]
      omega
    · rw [if_neg e, Int.add_zero]
  · have nb : ¬ xbit (couS L n i) (ρ i) := fun w => c (by simpa using bt.mp w)
    have M : MskOK (couS L n i) n (xones (couS L n i)) := ⟨n0, rg.1, (xset_rg _ _).2, rfl⟩
    rw [(M.add g0.1 g0.2 nb).2.1]
    refine (xset_ins (p := fun g => decide (0 < cntL L i g)) (q := fun g => decide (0 < cntL (L ++ [ρ]) i g)) g0.1 (by simpa using c) ?_ (fun k hk => ?_) n.toNat (by omega)).symm
    · have := cr (ρ i)
      rw [ap, if_pos rfl]
      simp
      omega
    · show decide (0 < cntL (L ++ [ρ]) i k) = decide (0 < cntL L i k)
      rw [ap, if_neg (fun w => hk w.symm), Int.add_zero]
/-- the notes stand in Rows at w -/
def RowsX (h : XH) (w n : Int) (L : List (Int → Int)) : Prop := xfl h w 59 = (L.length : Int) ∧ (∀ r0, L.head? = some r0 → ∀ i : Int, 0 ≤ i → i < n → xar h (w + 2) i = r0 i) ∧ (∀ i : Int, 0 ≤ i → i < n → xar h (w + 3) i = couS L n i) ∧ (∀ i g : Int, 0 ≤ i → i < n → 0 ≤ g → g < n → xar h (w + 4) (7 * i + g) = cntL L i g)
def FrR (w : Int) (h g : XH) : Prop := XFr (fun z f => z = w ∧ f = 59) (fun z => w + 1 ≤ z ∧ z ≤ w + 4) h g ∧ xsz g = xsz h ∧ xsl g = xsl h
theorem FrR.refl {w : Int} (h : XH) : FrR w h h := ⟨XFr.refl h, rfl, rfl⟩
theorem FrR.trans {w : Int} {h g k : XH} (p : FrR w h g) (q : FrR w g k) : FrR w h k := ⟨p.1.trans q.1 (fun _ _ _ e => e) (fun _ _ e => e), q.2.1.trans p.2.1, q.2.2.trans p.2.2⟩
def RCtx (h : XH) (B w r t n : Int) (T : XTw) (V : Int → Int) : Prop := (w + 5 ≤ B ∧ B ≤ xsz h ∧ r + 4 ≤ w) ∧ RowsL h w ∧ (xfl h w 57 = t ∧ xfl h w 58 = r) ∧ RoomsL h r ∧ SnapX h T r t V ∧ TownX h B t T ∧ TOK T ∧ VOK T n V
theorem RCtx.keep {h k : XH} {B w r t n : Int} {T : XTw} {V : Int → Int} (p : FrR w h k) (C : RCtx h B w r t n T V) : RCtx k B w r t n T V := by
  obtain ⟨p, z1, z2⟩ := p
  obtain ⟨⟨c1, c2, c3⟩, cW, ⟨f1, f2⟩, cR, cS, cT, cO, cV⟩ := C
  have fl : ∀ f : Nat, f ≠ 59 → xfl k w f = xfl h w f := fun f n1 => p.2.2.2.1 w f (by omega) (fun e => by omega)
  refine ⟨⟨c1, by omega, c3⟩, ?_, ⟨(fl _ (by decide)).trans f1, (fl _ (by decide)).trans f2⟩, cR.keep p (fun f hf e => by omega), cS.keep p (by omega) (fun e => by omega) (fun e => by omega) (fun e => by omega) (fun e => by omega) (fun e => by omega), cT.keep (Above.of p (fun z f hz e => by omega) (fun z hz e => by omega)), cO, cV⟩
  obtain ⟨w1, w2, w3, w4, w5, w6, w7, w8, w9⟩ := cW
  exact ⟨(p.2.2.1 w (by omega)).trans w1, (p.2.2.1 _ (by omega)).trans w2, (p.2.2.1 _ (by omega)).trans w3, (p.2.2.1 _ (by omega)).trans w4, (p.2.2.1 _ (by omega)).trans w5, (fl 53 (by decide)).trans w6, (fl 54 (by decide)).trans w7, (fl 55 (by decide)).trans w8, (fl 56 (by decide)).trans w9⟩
theorem x_note {d : Nat} {h : XH} {B w r t n : Int} {T : XTw} {V ρ : Int → Int} {L : List (Int → Int)} (C : RCtx h B w r t n T V) (hl : L.length + 1 ≤ 1000000) (hr : ∀ i : Int, 0 ≤ i → i < tnh T → xar h (w + 1) i = ρ i ∧ 0 ≤ ρ i ∧ ρ i < tnh T) (A : RowsX h w (tnh T) L) : WpM d 129 [.inr (.inr w)] h (XRet fun v h' => v = none ∧ FrR w h h' ∧ RowsX h' w (tnh T) (L ++ [ρ]) ∧ ∀ i : Int, xar h' (w + 1) i = xar h (w + 1) i) := by
  obtain ⟨w1, w2, w3, w4, w5, w6, w7, w8, w9⟩ := C.2.1
  have TX := C.2.2.2.2.2.1
  have hn := C.2.2.2.2.2.2.1.2.2.1
  have ct := TX.1.2.2
  have e111 : xfl h t 111 = tnh T := TX.2.2.1.2.2.1
  have f57 := C.2.2.1.1
  have bnd := C.1
  have tbn := TX.1.1
  clear TX
  obtain ⟨a1, a2, a3, a4⟩ := A
  -- from the first field on
  have at22 : ∀ g, XFr (fun _ _ => False) (fun z => z = w + 2) h g → xsz g = xsz h → xsl g = xsl h → (∀ r0, (L ++ [ρ]).head? = some r0 → ∀ i : Int, 0 ≤ i → i < tnh T → xar g (w + 2) i = r0 i) → Wp d 129 22 [some (.inr (.inr w)), none] [] g (XRet fun v h' => v = none ∧ FrR w h h' ∧ RowsX h' w (tnh T) (L ++ [ρ]) ∧ ∀ i : Int, xar h' (w + 1) i = xar h (w + 1) i) := by
    intro g p z1 z2 hf
    have tg := (p.2.2.1 w (by omega)).trans w1
    have g59 : xfl g w 59 = (L.length : Int) := (p.2.2.2.1 w 59 (by omega) (fun e => e)).trans a1
    refine Wp.vc 400 [34] rfl ?_
    rw [g59]
    refine ⟨isF tg rfl, by omega, isW tg rfl, ?_⟩
    have p2 : XFr (fun z f => z = w ∧ f = 59) (fun z => z = w + 2) h (xputf g w 59 ((L.length : Int) + 1)) := (p.mono (fun _ _ _ e => e.elim) (fun _ _ e => e)).putf (Or.inr ⟨rfl, rfl⟩)
    have e59 : xfl (xputf g w 59 ((L.length : Int) + 1)) w 59 = (L.length : Int) + 1 := by rw [xfl_putf, if_pos ⟨rfl, rfl⟩]
    have hf2 : ∀ r0, (L ++ [ρ]).head? = some r0 → ∀ i : Int, 0 ≤ i → i < tnh T → xar (xputf g w 59 ((L.length : Int) + 1)) (w + 2) i = r0 i := hf
    have z3 : xsz (xputf g w 59 ((L.length : Int) + 1)) = xsz h ∧ xsl (xputf g w 59 ((L.length : Int) + 1)) = xsl h := ⟨z1, z2⟩
    obtain ⟨G, hG⟩ : ∃ G, G = xputf g w 59 ((L.length : Int) + 1) := ⟨_, rfl⟩
    rw [← hG] at p2 e59 hf2 z3 ⊢
    clear hG p hf g59 tg
    have key : ∀ (k : Int) (h2 : XH), k ≤ tnh T → (0 ≤ k ∧ XFr (fun _ _ => False) (fun z => z = w + 3 ∨ z = w + 4) G h2 ∧ xsz h2 = xsz h ∧ xsl h2 = xsl h ∧ (∀ i : Int, 0 ≤ i → i < tnh T → xar h2 (w + 3) i = if i < k then couS (L ++ [ρ]) (tnh T) i else couS L (tnh T) i) ∧ ∀ i g : Int, 0 ≤ i → i < tnh T → 0 ≤ g → g < tnh T → xar h2 (w + 4) (7 * i + g) = if i < k then cntL (L ++ [ρ]) i g else cntL L i g) → Wp d 129 34 [some (.inr (.inr w)), some (.inl k)] [] h2 (XRet fun v h' => v = none ∧ FrR w h h' ∧ RowsX h' w (tnh T) (L ++ [ρ]) ∧ ∀ i : Int, xar h' (w + 1) i = xar h (w + 1) i) := by
      refine loopUp (G := fun k h2 => Wp d 129 34 [some (.inr (.inr w)), some (.inl k)] [] h2 (XRet fun v h' => v = none ∧ FrR w h h' ∧ RowsX h' w (tnh T) (L ++ [ρ]) ∧ ∀ i : Int, xar h' (w + 1) i = xar h (w + 1) i)) (tnh T) ?_ ?_
      · rintro k h2 ⟨k0, p, z4, z5, i3, i4⟩ hk ih
        have ty : ∀ x, x < xsz h → xty h2 x = xty h x := fun x hx => (p.2.2.1 x (by omega)).trans (p2.2.2.1 x hx)
        have fl : ∀ f, f ≠ 59 → xfl h2 w f = xfl h w f := fun f hf => (p.2.2.2.1 w f (by omega) (fun e => e)).trans (p2.2.2.2.1 w f (by omega) (fun e => hf e.2))
        have ft : xfl h2 t 111 = tnh T := ((p.2.2.2.1 t 111 (by have := C.2.2.2.2.2.1.1.2.1; omega) (fun e => e)).trans (p2.2.2.2.1 t 111 (by have := C.2.2.2.2.2.1.1.2.1; omega) (fun e => by omega))).trans e111
        have r1 : xar h2 (w + 1) k = ρ k := ((p.2.2.2.2 (w + 1) k (by omega) (fun e => by omega)).trans (p2.2.2.2.2 (w + 1) k (by omega) (fun e => by omega))).trans (hr k k0 hk).1
        have rk := (hr k k0 hk).2
        have t0 := (ty w (by omega)).trans w1
        have t1 := (ty (w + 1) (by omega)).trans w2
        have t3 := (ty (w + 3) (by omega)).trans w4
        have t4 := (ty (w + 4) (by omega)).trans w5
        have tt := (ty t (by have := C.2.2.2.2.2.1.1.2.1; omega)).trans ct
        have x2 := x2k (k := ρ k) ⟨rk.1, by omega⟩
        have v3 := i3 k k0 hk
        rw [if_neg (Int.lt_irrefl k)] at v3
        have v4 := i4 k (ρ k) k0 hk rk.1 rk.2
        rw [if_neg (Int.lt_irrefl k)] at v4
        have cr := cntL_rg (L := L) (i := k) (g := ρ k)
        have ca := couS_app (L := L) (ρ := ρ) (n := tnh T) (i := k) ⟨by omega, hn.2⟩ rk
        refine Wp.vc 400 [34] rfl ?_
        rw [(fl 57 (by decide)).trans f57, ft, (fl 55 (by decide)).trans w8, (fl 53 (by decide)).trans w6, r1, v3, ca, show xfl (xputa h2 (w + 3) k (couS (L ++ [ρ]) (tnh T) k)) w 56 = w + 4 from (fl 56 (by decide)).trans w9, show xfl (xputa h2 (w + 3) k (couS (L ++ [ρ]) (tnh T) k)) w 53 = w + 1 from (fl 53 (by decide)).trans w6, show xar (xputa h2 (w + 3) k (couS (L ++ [ρ]) (tnh T) k)) (w + 1) k = ρ k by rw [xar_puta, if_neg (fun e => by omega)]; exact r1, show xar (xputa h2 (w + 3) k (couS (L ++ [ρ]) (tnh T) k)) (w + 4) (7 * k + ρ k) = cntL L k (ρ k) by rw [xar_puta, if_neg (fun e => by omega)]; exact v4]
        refine ⟨isF t0 rfl, isF tt rfl, fun e => absurd e (by omega), fun _ => ⟨isF t0 rfl, isA t3 k0 (by omega), isF t0 rfl, isA t1 k0 (by omega), ⟨rk.1, by omega, x2.1, x2.2⟩, isB t3 k0 (by omega), isF t0 rfl, by omega, isF t0 rfl, isA t1 k0 (by omega), by omega, isA t4 (by omega) (by omega), by omega, isB t4 (by omega) (by omega), by omega, ih _ ⟨by omega, (p.puta (Or.inr (Or.inl rfl))).puta (Or.inr (Or.inr rfl)), z4, z5, fun i i0 i1 => ?_, fun i g i0 i1 g0 g1 => ?_⟩⟩⟩
        · rw [xar_puta, if_neg (fun e => by omega), xar_puta]
          by_cases e : i = k
          · rw [if_pos ⟨rfl, e⟩, if_pos (by omega), e]
          · rw [if_neg (fun q => e q.2), i3 i i0 i1]
            by_cases e2 : i < k
            · rw [if_pos e2, if_pos (by omega)]
            · rw [if_neg e2, if_neg (by omega)]
        · rw [xar_puta]
          by_cases e : i = k
          · by_cases e2 : g = ρ k
            · rw [if_pos ⟨rfl, by omega⟩, if_pos (by omega), cntL_app, e, if_pos e2.symm, e2]
            · rw [if_neg (fun q => by omega), xar_puta, if_neg (fun q => by omega), i4 i g i0 i1 g0 g1, if_neg (by omega), if_pos (by omega), cntL_app, e, if_neg (fun q => e2 q.symm), Int.add_zero]
          · rw [if_neg (fun q => by omega), xar_puta, if_neg (fun q => by omega), i4 i g i0 i1 g0 g1]
            by_cases e2 : i < k
            · rw [if_pos e2, if_pos (by omega)]
            · rw [if_neg e2, if_neg (by omega)]
      · rintro h2 ⟨k0, p, z4, z5, i3, i4⟩
        have fl : ∀ f, f ≠ 59 → xfl h2 w f = xfl h w f := fun f hf => (p.2.2.2.1 w f (by omega) (fun e => e)).trans (p2.2.2.2.1 w f (by omega) (fun e => hf e.2))
        have ft : xfl h2 t 111 = tnh T := ((p.2.2.2.1 t 111 (by have := C.2.2.2.2.2.1.1.2.1; omega) (fun e => e)).trans (p2.2.2.2.1 t 111 (by have := C.2.2.2.2.2.1.1.2.1; omega) (fun e => by omega))).trans e111
        have t0 := ((p.2.2.1 w (by omega)).trans (p2.2.2.1 w (by omega))).trans w1
        have tt := ((p.2.2.1 t (by have := C.2.2.2.2.2.1.1.2.1; omega)).trans (p2.2.2.1 t (by have := C.2.2.2.2.2.1.1.2.1; omega))).trans ct
        refine Wp.vc 400 [45] rfl ?_
        rw [(fl 57 (by decide)).trans f57, ft]
        refine ⟨isF t0 rfl, isF tt rfl, fun _ => ⟨trivial, none, rfl, rfl, ⟨(p2.mono (fun _ _ _ e => e) (fun z _ e => ⟨by omega, by omega⟩)).trans p (fun _ _ _ e => e.elim) (fun z _ e => ⟨by omega, by omega⟩), z4, z5⟩, ⟨?_, fun r0 hr0 i i0 i1 => ?_, fun i i0 i1 => ?_, fun i g i0 i1 g0 g1 => ?_⟩, fun i => ?_⟩, fun e => absurd (Int.le_refl _) e⟩
        · rw [p.2.2.2.1 w 59 (by omega) (fun e => e), e59, List.length_append]
          rfl
        · rw [p.2.2.2.2 (w + 2) i (by omega) (fun e => by omega)]
          exact hf2 r0 hr0 i i0 i1
        · rw [i3 i i0 i1, if_pos i1]
        · rw [i4 i g i0 i1 g0 g1, if_pos i1]
        · rw [p.2.2.2.2 (w + 1) i (by omega) (fun e => by omega), p2.2.2.2.2 (w + 1) i (by omega) (fun e => by omega)]
    refine key 0 G (by omega) ⟨Int.le_refl _, XFr.refl G, z3.1, z3.2, fun i i0 i1 => ?_, fun i g i0 i1 g0 g1 => ?_⟩
    · rw [if_neg (by omega), p2.2.2.2.2 (w + 3) i (by omega) (fun e => by omega)]
      exact a3 i i0 i1
    · rw [if_neg (by omega), p2.2.2.2.2 (w + 4) _ (by omega) (fun e => by omega)]
      exact a4 i g i0 i1 g0 g1
  refine WpM.of rfl (Wp.vc 400 [22] rfl ?_)
  rw [a1]
  refine ⟨isF w1 rfl, fun c => ?_, fun c => ?_⟩
  · refine at22 h (XFr.refl h) rfl rfl (fun r0 hr0 i i0 i1 => ?_)
    have hL : L ≠ [] := fun e => c (by rw [e]; rfl)
    obtain ⟨x, l, rfl⟩ := List.exists_cons_of_ne_nil hL
    exact a2 r0 hr0 i i0 i1
  · have c : (L.length : Int) = 0 := Decidable.of_not_not c
    have hL : L = [] := List.length_eq_zero_iff.mp (by omega)
    subst hL
    rw [w6, w7]
    refine ⟨isF w1 rfl, isF w1 rfl, ⟨true, 7, 7, w2, w3, by decide, by decide, by decide, by decide, by decide⟩, at22 _ ((XFr.refl h).copy (Or.inr rfl)) rfl rfl (fun r0 hr0 i i0 i1 => ?_)⟩
    cases hr0
    rw [xar_copy, if_pos ⟨rfl, by omega, by omega⟩, show (0 : Int) + (i - 0) = i by omega]
    exact (hr i i0 i1).1
