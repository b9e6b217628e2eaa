/-! WALKS, 24: all ways; WrongRoom's tries of them -/
set_option maxRecDepth 100000
set_option maxHeartbeats 4000000
theorem msk_dec : ∀ (u : Fin 128) (k : Fin 7), ¬ xbit (u.val : Int) (k.val : Int) → xor_ (u.val : Int) (1 * 2 ^ k.val) = (u.val : Int) + 2 ^ k.val ∧ xones ((u.val : Int) + 2 ^ k.val) = xones (u.val : Int) + 1 ∧ xand ((u.val : Int) + 2 ^ k.val) (xxor (1 * 2 ^ k.val) (-1)) = (u.val : Int) := by decide +kernel
theorem msk_dec2 : ∀ (n : Fin 8) (u : Fin 128) (k : Fin 7), ¬ xbit (u.val : Int) (k.val : Int) → k.val < n.val → (u.val : Int) < 2 ^ n.val → (u.val : Int) + 2 ^ k.val < 2 ^ n.val := by decide +kernel
theorem msk_dec3 : ∀ (n : Fin 8) (u : Fin 128), (u.val : Int) < 2 ^ n.val → xones (u.val : Int) ≤ (n.val : Int) ∧ (xones (u.val : Int) = (n.val : Int) → ∀ k : Fin 7, k.val < n.val → xbit (u.val : Int) (k.val : Int)) := by decide +kernel
/-- a set of m houses of n -/
def MskOK (u n m : Int) : Prop := (0 ≤ n ∧ n ≤ 7) ∧ 0 ≤ u ∧ u < 2 ^ n.toNat ∧ xones u = m
theorem two_pow7 {n : Int} (h : 0 ≤ n ∧ n ≤ 7) : (2 : Int) ^ n.toNat ≤ 128 := by
  have : ∀ k : Fin 8, (2 : Int) ^ k.val ≤ 128 := by decide
  exact this ⟨n.toNat, by omega⟩
theorem MskOK.rg {u n m : Int} (h : MskOK u n m) : 0 ≤ u ∧ u < 128 ∧ m ≤ n := by
  obtain ⟨h1, h2, h3, h4⟩ := h
  have h5 := two_pow7 h1
  refine ⟨h2, by omega, ?_⟩
  have := (msk_dec3 ⟨n.toNat, by omega⟩ ⟨u.toNat, by omega⟩ (by show (u.toNat : Int) < 2 ^ n.toNat; omega)).1
  have e1 : ((u.toNat : Nat) : Int) = u := by omega
  have e2 : ((n.toNat : Nat) : Int) = n := by omega
  simp only [e1, e2] at this
  omega
theorem MskOK.full {u n : Int} (h : MskOK u n n) : ∀ k : Int, 0 ≤ k → k < n → xbit u k := by
  intro k k0 k1
  obtain ⟨h1, h2, h3, h4⟩ := h
  have h5 := two_pow7 h1
  have e1 : ((u.toNat : Nat) : Int) = u := by omega
  have e2 : ((n.toNat : Nat) : Int) = n := by omega
  have e3 : ((k.toNat : Nat) : Int) = k := by omega
  have := (msk_dec3 ⟨n.toNat, by omega⟩ ⟨u.toNat, by omega⟩ (by show (u.toNat : Int) < 2 ^ n.toNat; omega)).2 (by simp only [e1, e2]; exact h4) ⟨k.toNat, by omega⟩ (by show k.toNat < n.toNat; omega)
  simp only [e1, e3] at this
  exact this
theorem MskOK.add {u n m k : Int} (h : MskOK u n m) (k0 : 0 ≤ k) (k1 : k < n) (hb : ¬ xbit u k) : MskOK (u + 2 ^ k.toNat) n (m + 1) ∧ xor_ u (1 * 2 ^ k.toNat) = u + 2 ^ k.toNat ∧ xand (u + 2 ^ k.toNat) (xxor (1 * 2 ^ k.toNat) (-1)) = u := by
  have hr := h.rg
  obtain ⟨h1, h2, h3, h4⟩ := h
  have e1 : ((u.toNat : Nat) : Int) = u := by omega
  have e2 : ((n.toNat : Nat) : Int) = n := by omega
  have e3 : ((k.toNat : Nat) : Int) = k := by omega
  have a := msk_dec ⟨u.toNat, by omega⟩ ⟨k.toNat, by omega⟩ (by simp only [e1, e3]; exact hb)
  have b := msk_dec2 ⟨n.toNat, by omega⟩ ⟨u.toNat, by omega⟩ ⟨k.toNat, by omega⟩ (by simp only [e1, e3]; exact hb) (by show k.toNat < n.toNat; omega) (by simp only [e1]; exact h3)
  simp only [e1] at a b
  have p0 : (0 : Int) < 2 ^ k.toNat := Int.pow_pos (by decide)
  exact ⟨⟨h1, by omega, b, by rw [a.2.1, h4]⟩, a.1, a.2.2⟩
theorem MskOK.one {n k : Int} (hn : 0 ≤ n ∧ n ≤ 7) (k0 : 0 ≤ k) (k1 : k < n) : MskOK (1 * 2 ^ k.toNat) n 1 := by
  have z : ¬ xbit 0 k := by
    show ¬ ((0 : Int) / 2 ^ k.toNat % 2 = 1)
    rw [Int.zero_ediv]
    decide
  have h := (MskOK.add (u := 0) (m := 0) ⟨hn, Int.le_refl _, Int.pow_pos (by decide), xones_0⟩ k0 k1 z).1
  rw [Int.one_mul]
  rw [Int.zero_add, Int.zero_add] at h
  exact h
/-- the houses ahead of n -/
def nds (n : Int) : List Int := (List.range n.toNat).map fun (i : Nat) => (i : Int)
theorem nds_succ {k : Int} (h : 0 ≤ k) : nds (k + 1) = nds k ++ [k] := by
  unfold nds
  rw [show (k + 1).toNat = k.toNat + 1 by omega, List.range_succ, List.map_append]
  show _ ++ [((k.toNat : Nat) : Int)] = _
  rw [show ((k.toNat : Nat) : Int) = k by omega]
theorem nds_mem {n j : Int} : j ∈ nds n ↔ 0 ≤ j ∧ j < n := by
  unfold nds
  rw [List.mem_map]
  constructor
  · rintro ⟨a, h1, h2⟩
    rw [List.mem_range] at h1
    omega
  · intro h
    exact ⟨j.toNat, List.mem_range.mpr (by omega), by omega⟩
/-- all ways from a to g at minute t that keep out of u: when, and the houses from a on -/
def wys (T : XTw) (V : Int → Int) (b : Bool) (g : Int) : Nat → Int → Int → Int → List (Int × List Int)
  | 0, _, _, _ => []
  | f + 1, u, a, t => if a = g then [(t, [a])] else ((nds (tnh T)).flatMap fun j => if xbit u j then [] else match wst T V b a j t with
    | none => []
    | some v => wys T V b g f (u + 2 ^ j.toNat) j v).map fun w => (w.1, a :: w.2)
def wkid (T : XTw) (V : Int → Int) (b : Bool) (g : Int) (f : Nat) (u a t j : Int) : List (Int × List Int) := if xbit u j then [] else match wst T V b a j t with
  | none => []
  | some v => wys T V b g f (u + 2 ^ j.toNat) j v
theorem wys_st {T : XTw} {V : Int → Int} {b : Bool} {g u a t : Int} {f : Nat} (h : a ≠ g) : wys T V b g (f + 1) u a t = ((nds (tnh T)).flatMap (wkid T V b g f u a t)).map fun w => (w.1, a :: w.2) := if_neg h
theorem wys_at {T : XTw} {V : Int → Int} {b : Bool} {g u t : Int} {f : Nat} : wys T V b g (f + 1) u g t = [(t, [g])] := if_pos rfl
def wysP (p : List Int) (l : List (Int × List Int)) : List (Int × List Int) := l.map fun w => (w.1, p ++ w.2)
theorem wysP_cons {p : List Int} {a : Int} {l : List (Int × List Int)} : wysP p (l.map fun w => (w.1, a :: w.2)) = wysP (p ++ [a]) l := by
  unfold wysP
  rw [List.map_map]
  refine List.map_congr_left fun w _ => ?_
  show (w.1, p ++ a :: w.2) = (w.1, p ++ [a] ++ w.2)
  rw [List.append_assoc]
  rfl
theorem wysP_app {p : List Int} {l l' : List (Int × List Int)} : wysP p (l ++ l') = wysP p l ++ wysP p l' := List.map_append
/-- the soonest so far, the first of those -/
def wbO (acc : Option (Int × List Int)) (w : Int × List Int) : Option (Int × List Int) := match acc with
  | none => some w
  | some a => if w.1 < a.1 then some w else some a
theorem wbO_late {a : Int × List Int} : ∀ (l : List (Int × List Int)), (∀ w ∈ l, a.1 ≤ w.1) → l.foldl wbO (some a) = some a := by
  intro l
  induction l with
  | nil => intro _; rfl
  | cons w l ih =>
    intro h
    show l.foldl wbO (if w.1 < a.1 then some w else some a) = _
    have := h w List.mem_cons_self
    rw [if_neg (by omega)]
    exact ih fun x hx => h x (List.mem_cons_of_mem _ hx)
theorem wys_rg {T : XTw} {V : Int → Int} {b : Bool} {g : Int} (TO : TOK T) : ∀ (f : Nat) (u a t : Int), (0 ≤ a ∧ a < 7) → 0 ≤ t → ∀ w ∈ wys T V b g f u a t, t ≤ w.1 ∧ w.1 ≤ t + 1449 * f ∧ w.2 ≠ [] ∧ w.2.length ≤ f := by
  intro f
  induction f with
  | zero => intro u a t _ _ w hw; cases hw
  | succ f ih =>
    intro u a t a0 t0 w hw
    by_cases c : a = g
    · subst c
      rw [wys_at] at hw
      have := List.mem_singleton.mp hw
      subst this
      exact ⟨Int.le_refl _, by show t ≤ _; omega, by simp, by simp⟩
    · rw [wys_st c, List.mem_map] at hw
      obtain ⟨w', h1, rfl⟩ := hw
      rw [List.mem_flatMap] at h1
      obtain ⟨j, j1, j2⟩ := h1
      have j1 := nds_mem.mp j1
      have hn := TO.2.2.1
      unfold wkid at j2
      split at j2
      · cases j2
      · split at j2
        · cases j2
        · next v hv =>
          have hr := wst_rg TO a0 ⟨j1.1, by omega⟩ t0 hv
          have := ih _ j v ⟨j1.1, by omega⟩ (by omega) w' j2
          refine ⟨by show t ≤ w'.1; omega, by show w'.1 ≤ _; omega, by simp, ?_⟩
          show (a :: w'.2).length ≤ f + 1
          rw [List.length_cons]
          omega
/-- the tries stand in Ways at w -/
def WaccX (h : XH) (w : Int) (acc : Option (Int × List Int)) : Prop := match acc with
  | none => xfl h w 51 = 100000000 ∧ xfl h w 52 = 0
  | some a => (xfl h w 51 = a.1 ∧ a.1 ≤ 1000000) ∧ (xfl h w 52 = (a.2.length : Int) ∧ a.2.length ≤ 7) ∧ ∀ j : Nat, j < a.2.length → xar h (w + 2) (j : Int) = a.2.getD j 0
def RowX (h : XH) (w : Int) (p : List Int) : Prop := ∀ j : Nat, j < p.length → xar h (w + 1) (j : Int) = p.getD j 0
def FrW (w : Int) (h g : XH) : Prop := XFr (fun z f => z = w ∧ (f = 51 ∨ f = 52)) (fun z => z = w + 1 ∨ z = w + 2) h g ∧ xsz g = xsz h ∧ xsl g = xsl h
theorem FrW.refl {w : Int} (h : XH) : FrW w h h := ⟨XFr.refl h, rfl, rfl⟩
theorem FrW.trans {w : Int} {h g k : XH} (p : FrW w h g) (q : FrW w g k) : FrW w h k := ⟨p.1.trans q.1 (fun _ _ _ e => e) (fun _ _ e => e), q.2.1.trans p.2.1, q.2.2.trans p.2.2⟩
def WCtx (h : XH) (B w r g t n goal : Int) (b : Bool) (T : XTw) (V : Int → Int) : Prop := (w + 3 ≤ B ∧ B ≤ xsz h ∧ r + 4 ≤ w) ∧ WaysL h w ∧ (xfl h w 47 = t ∧ xfl h w 48 = r ∧ xfl h w 49 = g ∧ xfl h w 50 = goal) ∧ (g < xsz h ∧ xty h g = some (true, if b = true then 6 else 5, none)) ∧ RoomsL h r ∧ SnapX h T r t V ∧ TownX h B t T ∧ TOK T ∧ VOK T n V
theorem WCtx.keep {h k : XH} {B w r g t n goal : Int} {b : Bool} {T : XTw} {V : Int → Int} (p : FrW w h k) (C : WCtx h B w r g t n goal b T V) : WCtx k B w r g t n goal b T V := by
  obtain ⟨p, z1, z2⟩ := p
  obtain ⟨⟨c1, c2, c3⟩, cW, ⟨f1, f2, f3, f4⟩, ⟨cg, tg⟩, cR, cS, cT, cO, cV⟩ := C
  have fl : ∀ f : Nat, f ≠ 51 → f ≠ 52 → xfl k w f = xfl h w f := fun f n1 n2 => p.2.2.2.1 w f (by omega) (fun e => by omega)
  refine ⟨⟨c1, by omega, c3⟩, ?_, ⟨(fl _ (by decide) (by decide)).trans f1, (fl _ (by decide) (by decide)).trans f2, (fl _ (by decide) (by decide)).trans f3, (fl _ (by decide) (by decide)).trans f4⟩, ⟨by omega, (p.2.2.1 g cg).trans tg⟩, cR.keep p (fun f hf e => by omega), cS.keep p (by omega) (fun e => by omega) (fun e => by omega) (fun e => by omega) (fun e => by omega) (fun e => by omega), cT.keep (Above.of p (fun z f hz e => by omega) (fun z hz e => by omega)), cO, cV⟩
  obtain ⟨w1, w2, w3, w4, w5⟩ := cW
  exact ⟨(p.2.2.1 w (by omega)).trans w1, (p.2.2.1 _ (by omega)).trans w2, (p.2.2.1 _ (by omega)).trans w3, (fl 45 (by decide) (by decide)).trans w4, (fl 46 (by decide) (by decide)).trans w5⟩
abbrev WEnd (w : Int) (p : List Int) (h : XH) (acc : Option (Int × List Int)) : XO → XH → Prop := XRet fun v h' => v = none ∧ FrW w h h' ∧ WaccX h' w acc ∧ RowX h' w p
theorem getD_app1 {p : List Int} {a : Int} {j : Nat} (h : j < p.length) : (p ++ [a]).getD j 0 = p.getD j 0 := by
  simp [List.getD, List.getElem?_append_left h]
theorem getD_app2 {p : List Int} {a : Int} : (p ++ [a]).getD p.length 0 = a := by
  simp [List.getD]
/-- the first thing a try does: the house is put into the row -/
theorem row_put {h : XH} {w a : Int} {p : List Int} {acc : Option (Int × List Int)} (R : RowX h w p) (A : WaccX h w acc) : RowX (xputa h (w + 1) (p.length : Int) a) w (p ++ [a]) ∧ WaccX (xputa h (w + 1) (p.length : Int) a) w acc ∧ FrW w h (xputa h (w + 1) (p.length : Int) a) := by
  refine ⟨fun j hj => ?_, ?_, (XFr.refl h).puta (Or.inr (Or.inl rfl)), rfl, rfl⟩
  · rw [xar_puta]
    rw [List.length_append, List.length_singleton] at hj
    by_cases e : j = p.length
    · rw [if_pos ⟨rfl, by omega⟩, e, getD_app2]
    · rw [if_neg (fun w => e (by omega)), R j (by omega), getD_app1 (by omega)]
  · unfold WaccX at A ⊢
    split at A
    · exact A
    · refine ⟨A.1, A.2.1, fun j hj => ?_⟩
      rw [xar_puta, if_neg (fun e => by omega)]
      exact A.2.2 j hj
theorem RowX.left {h : XH} {w a : Int} {p : List Int} (R : RowX h w (p ++ [a])) : RowX h w p := fun j hj => by
  rw [R j (by rw [List.length_append]; omega), getD_app1 hj]
/-- a try without a step -/
theorem x_late {D : Nat} {h : XH} {B w r g t n goal a u : Int} {b : Bool} {T : XTw} {V : Int → Int} {p : List Int} {acc : Option (Int × List Int)} (C : WCtx h B w r g t n goal b T V) (hp : p.length < 7) (R : RowX h w p) (A : WaccX h w acc) : WpM D 118 [.inr (.inr w), .inl (p.length : Int), .inl a, .inl u, .inl 100000000] h (WEnd w p h acc) := by
  obtain ⟨w1, w2, w3, w4, w5⟩ := C.2.1
  obtain ⟨R1, A1, F1⟩ := row_put (a := a) R A
  have hs : xfl h w 51 ≤ 100000000 := by
    unfold WaccX at A
    split at A <;> omega
  refine WpM.of rfl (Wp.vc 400 [] rfl ?_)
  rw [w4]
  refine ⟨isF w1 rfl, isB w2 (by omega) (by omega), isF w1 rfl, fun c => ?_, fun c => ⟨trivial, none, rfl, rfl, F1, A1, R1.left⟩⟩
  have c : 100000000 < xfl h w 51 := c
  omega
theorem x_comes {B w r g t n goal : Int} {b : Bool} {T : XTw} {V : Int → Int} : ∀ (f D : Nat) (h : XH) (u a m : Int) (p : List Int) (acc : Option (Int × List Int)), f + 6 ≤ D → p.length + f = 7 → WCtx h B w r g t n goal b T V → MskOK u (tnh T) ((p.length : Int) + 1) → (0 ≤ a ∧ a < tnh T) → (0 ≤ m ∧ m ≤ 100000 + 1449 * (p.length : Int)) → RowX h w p → WaccX h w acc → WpM D 118 [.inr (.inr w), .inl (p.length : Int), .inl a, .inl u, .inl m] h (WEnd w p h ((wysP p (wys T V b goal f u a m)).foldl wbO acc)) := by
  intro f
  induction f with
  | zero =>
    intro D h u a m p acc hD hf C M a0 m0 R A
    have := M.rg
    have := M.1
    omega
  | succ f ih =>
    intro D h u a m p acc hD hf C M a0 m0 R A
    obtain ⟨D, rfl⟩ : ∃ D', D = D' + 6 := ⟨D - 6, by omega⟩
    obtain ⟨w1, w2, w3, w4, w5⟩ := C.2.1
    refine WpM.of rfl (Wp.vc 400 [7] rfl ?_)
    rw [w4]
    refine ⟨isF w1 rfl, isB w2 (by omega) (by omega), ?_⟩
    obtain ⟨R1, A1, F1⟩ := row_put (a := a) R A
    obtain ⟨h1, e1⟩ : ∃ h1, h1 = xputa h (w + 1) (p.length : Int) a := ⟨_, rfl⟩
    rw [← e1] at R1 A1 F1 ⊢
    clear e1 R A w1 w2 w3 w4 w5
    have C1 := C.keep F1
    clear C
    obtain ⟨w1, w2, w3, w4, w5⟩ := C1.2.1
    obtain ⟨f47, f48, f49, f50⟩ := C1.2.2.1
    have TO := C1.2.2.2.2.2.2.2.1
    have hn := TO.2.2.1
    have hM := M.rg
    refine Wp.vc 400 [57] rfl ?_
    rw [f50]
    refine ⟨isF w1 rfl, fun late => ⟨isF w1 rfl, fun ne => ?_, fun eq => ?_⟩, fun late => ⟨trivial, none, rfl, rfl, F1, ?_, R1.left⟩⟩
    · have ne : a ≠ goal := ne
      rw [wys_st ne, wysP_cons]
      clear late
      have key : ∀ (k : Int) (h2 : XH), k ≤ tnh T → (0 ≤ k ∧ FrW w h1 h2 ∧ RowX h2 w (p ++ [a]) ∧ WaccX h2 w ((wysP (p ++ [a]) ((nds k).flatMap (wkid T V b goal f u a m))).foldl wbO acc)) → Wp (D + 6) 118 57 [some (.inr (.inr w)), some (.inl (p.length : Int)), some (.inl a), some (.inl u), some (.inl m), some (.inl k)] [] h2 (WEnd w p h ((wysP (p ++ [a]) ((nds (tnh T)).flatMap (wkid T V b goal f u a m))).foldl wbO acc)) := by
        refine loopUp (G := fun k h2 => Wp (D + 6) 118 57 [some (.inr (.inr w)), some (.inl (p.length : Int)), some (.inl a), some (.inl u), some (.inl m), some (.inl k)] [] h2 (WEnd w p h ((wysP (p ++ [a]) ((nds (tnh T)).flatMap (wkid T V b goal f u a m))).foldl wbO acc))) (tnh T) ?_ ?_
        · rintro k h2 ⟨k0, F2, R2, A2⟩ hk ih2
          have C2 := C1.keep F2
          obtain ⟨v1, v2, v3, v4, v5⟩ := C2.2.1
          obtain ⟨g47, g48, g49, g50⟩ := C2.2.2.1
          have TX2 := C2.2.2.2.2.2.2.1
          have e111 : xfl h2 t 111 = tnh T := TX2.2.2.1.2.2.1
          have ct := TX2.1.2.2
          have ih2 : ∀ h3, FrW w h2 h3 → RowX h3 w (p ++ [a]) → WaccX h3 w ((wysP (p ++ [a]) (wkid T V b goal f u a m k)).foldl wbO ((wysP (p ++ [a]) ((nds k).flatMap (wkid T V b goal f u a m))).foldl wbO acc)) → Wp (D + 6) 118 113 [some (.inr (.inr w)), some (.inl (p.length : Int)), some (.inl a), some (.inl u), some (.inl m), some (.inl k)] [] h3 (WEnd w p h ((wysP (p ++ [a]) ((nds (tnh T)).flatMap (wkid T V b goal f u a m))).foldl wbO acc)) := by
            intro h3 q1 q2 q3
            refine Wp.vc 400 [57] rfl ?_
            refine ⟨⟨by omega, by omega⟩, ih2 h3 ⟨by omega, F2.trans q1, q2, ?_⟩⟩
            rw [nds_succ k0, List.flatMap_append, wysP_app, List.foldl_append, List.flatMap_singleton]
            exact q3
          refine Wp.vc 400 [57, 113] rfl ?_
          rw [g47, e111]
          refine ⟨isF v1 rfl, isF ct rfl, fun c => absurd c (by omega), fun _ => ?_⟩
          refine Wp.callE (j := 0) rfl (Nat.le_of_ble_eq_true rfl) trivial (x_has u k ⟨by omega, by omega⟩ ⟨k0, by omega⟩) ?_
          by_cases cb : xbit u k
          · rw [if_pos cb]
            refine Wp.vc 400 [57, 113] rfl ?_
            refine ⟨fun _ => ih2 h2 (FrW.refl _) R2 ?_, fun c => absurd (show ¬ (1 : Int) = 0 by decide) c⟩
            rw [show wkid T V b goal f u a m k = [] from if_pos cb]
            exact A2
          · rw [if_neg cb]
            obtain ⟨M2, o1, -⟩ := M.add k0 hk cb
            have hM2 := M2.rg
            have x2 := x2k (k := k) ⟨k0, by omega⟩
            refine Wp.vc 400 [57, 113] rfl ?_
            rw [g47, g48, g49, o1]
            refine ⟨fun c => absurd rfl c, fun _ => ⟨⟨by omega, by omega⟩, ⟨k0, by omega, x2.1, x2.2⟩, isF v1 rfl, isF v1 rfl, isF v1 rfl, ?_⟩⟩
            obtain ⟨-, -, -, ⟨-, tg⟩, cR, cS, cT, -, cV⟩ := id C2
            refine Wp.byC (d := D + 2) tg cR cS cT TO cV a0 ⟨k0, hk⟩ ⟨m0.1, by omega⟩ rfl rfl (Nat.le_of_ble_eq_true rfl) ?_
            have el : (p ++ [a]).length = p.length + 1 := by simp
            have el' : ((p ++ [a]).length : Int) = (p.length : Int) + 1 := by omega
            have kd : wkid T V b goal f u a m k = match wst T V b a k m with
              | none => []
              | some v => wys T V b goal f (u + 2 ^ k.toNat) k v := if_neg cb
            cases hw : wst T V b a k m with
            | none =>
              rw [hw] at kd
              have kl := x_late (D := D + 5) (a := k) (u := u + 2 ^ k.toNat) C2 (p := p ++ [a]) (by omega) R2 A2
              rw [el'] at kl
              refine Wp.callR (j := 0) rfl (Nat.le_of_ble_eq_true rfl) ⟨true, v1⟩ kl (fun v h3 q => ?_)
              obtain ⟨rfl, q1, q2, q3⟩ := q
              refine ih2 h3 q1 q3 ?_
              rw [kd]
              exact q2
            | some v =>
              rw [hw] at kd
              have rg := wst_rg TO ⟨a0.1, by omega⟩ ⟨k0, by omega⟩ m0.1 hw
              have kl := ih (D + 5) h2 (u + 2 ^ k.toNat) k v (p ++ [a]) _ (by omega) (by omega) C2 (by rw [el']; exact M2) ⟨k0, hk⟩ ⟨by omega, by omega⟩ R2 A2
              rw [el'] at kl
              refine Wp.callR (j := 0) rfl (Nat.le_of_ble_eq_true rfl) ⟨true, v1⟩ kl (fun v h3 q => ?_)
              obtain ⟨rfl, q1, q2, q3⟩ := q
              refine ih2 h3 q1 q3 ?_
              rw [kd]
              exact q2
        · rintro h2 ⟨k0, F2, R2, A2⟩
          have C2 := C1.keep F2
          obtain ⟨v1, v2, v3, v4, v5⟩ := C2.2.1
          obtain ⟨g47, g48, g49, g50⟩ := C2.2.2.1
          have TX2 := C2.2.2.2.2.2.2.1
          have e111 : xfl h2 t 111 = tnh T := TX2.2.2.1.2.2.1
          have ct := TX2.1.2.2
          refine Wp.vc 400 [57] rfl ?_
          rw [g47, e111]
          exact ⟨isF v1 rfl, isF ct rfl, fun _ => ⟨trivial, none, rfl, rfl, F1.trans F2, A2, R2.left⟩, fun c => absurd (Int.le_refl _) c⟩
      exact key 0 h1 (by omega) ⟨Int.le_refl _, FrW.refl _, R1, A1⟩
    · have eq : a = goal := Decidable.of_not_not eq
      subst eq
      have late : m < xfl h1 w 51 := late
      have ea : (wysP p (wys T V b a (f + 1) u a m)).foldl wbO acc = some (m, p ++ [a]) := by
        rw [wys_at]
        show wbO acc (m, p ++ [a]) = _
        unfold WaccX at A1
        unfold wbO
        split
        · rfl
        · next a0 =>
          have A1 : (xfl h1 w 51 = a0.1 ∧ a0.1 ≤ 1000000) ∧ _ := A1
          exact if_pos (by show m < a0.1; omega)
      rw [ea, show xfl (xputf (xputf h1 w 51 m) w 52 ((p.length : Int) + 1)) w 45 = w + 1 from (by (first | assumption | ((try simp only [xcs_putf, xty_putf, xar_putf, xsz_putf, xsl_putf, xfl_putf, xcs_puta, xty_puta, xfl_puta, xsz_puta, xsl_puta, xar_puta, xcs_copy, xty_copy, xfl_copy, xsz_copy, xsl_copy, xar_copy, xcs_newo, xar_newo, xsz_newo, xsl_newo, xty_newo, xfl_newo, xcs_newa, xfl_newa, xsz_newa, xsl_newa, xty_newa, xar_newa, and_true, true_and, and_false, false_and, ite_true, ite_false, eq_self, and_self]) <;> (repeat (first | rw [if_pos (by omega)] | rw [if_neg (by omega)])) <;> (first | assumption | rfl | omega)))), show xfl (xputf (xputf h1 w 51 m) w 52 ((p.length : Int) + 1)) w 46 = w + 2 from (by (first | assumption | ((try simp only [xcs_putf, xty_putf, xar_putf, xsz_putf, xsl_putf, xfl_putf, xcs_puta, xty_puta, xfl_puta, xsz_puta, xsl_puta, xar_puta, xcs_copy, xty_copy, xfl_copy, xsz_copy, xsl_copy, xar_copy, xcs_newo, xar_newo, xsz_newo, xsl_newo, xty_newo, xfl_newo, xcs_newa, xfl_newa, xsz_newa, xsl_newa, xty_newa, xar_newa, and_true, true_and, and_false, false_and, ite_true, ite_false, eq_self, and_self]) <;> (repeat (first | rw [if_pos (by omega)] | rw [if_neg (by omega)])) <;> (first | assumption | rfl | omega))))]
      have t1 : xty h1 (w + 1) = some (true, 0, some 7) := w2
      have t2 : xty h1 (w + 2) = some (true, 0, some 7) := w3
      refine ⟨isW w1 rfl, ⟨by omega, by omega⟩, isW w1 rfl, isF w1 rfl, isF w1 rfl, ⟨true, 7, 7, t1, t2, by decide, by decide, by decide, by decide, by decide⟩, trivial, none, rfl, rfl, F1.trans ⟨?_, rfl, rfl⟩, ?_, ?_⟩
      · exact (((XFr.refl h1).putf (Or.inr ⟨rfl, Or.inl rfl⟩)).putf (Or.inr ⟨rfl, Or.inr rfl⟩)).copy (Or.inr (Or.inr rfl))
      · have el : (p ++ [a]).length = p.length + 1 := by simp
        refine ⟨⟨?_, by show m ≤ _; omega⟩, ⟨?_, by show (p ++ [a]).length ≤ 7; omega⟩, fun j hj => ?_⟩
        · simp only [xcs_putf, xty_putf, xar_putf, xsz_putf, xsl_putf, xfl_putf, xcs_puta, xty_puta, xfl_puta, xsz_puta, xsl_puta, xar_puta, xcs_copy, xty_copy, xfl_copy, xsz_copy, xsl_copy, xar_copy, xcs_newo, xar_newo, xsz_newo, xsl_newo, xty_newo, xfl_newo, xcs_newa, xfl_newa, xsz_newa, xsl_newa, xty_newa, xar_newa, and_true, true_and, and_false, false_and, ite_true, ite_false, eq_self, and_self]
          exact if_neg (by omega)
        · simp only [xcs_putf, xty_putf, xar_putf, xsz_putf, xsl_putf, xfl_putf, xcs_puta, xty_puta, xfl_puta, xsz_puta, xsl_puta, xar_puta, xcs_copy, xty_copy, xfl_copy, xsz_copy, xsl_copy, xar_copy, xcs_newo, xar_newo, xsz_newo, xsl_newo, xty_newo, xfl_newo, xcs_newa, xfl_newa, xsz_newa, xsl_newa, xty_newa, xar_newa, and_true, true_and, and_false, false_and, ite_true, ite_false, eq_self, and_self]
          show (p.length : Int) + 1 = ((p ++ [a]).length : Int)
          omega
        · have hj : j < (p ++ [a]).length := hj
          simp only [xcs_putf, xty_putf, xar_putf, xsz_putf, xsl_putf, xfl_putf, xcs_puta, xty_puta, xfl_puta, xsz_puta, xsl_puta, xar_puta, xcs_copy, xty_copy, xfl_copy, xsz_copy, xsl_copy, xar_copy, xcs_newo, xar_newo, xsz_newo, xsl_newo, xty_newo, xfl_newo, xcs_newa, xfl_newa, xsz_newa, xsl_newa, xty_newa, xar_newa, and_true, true_and, and_false, false_and, ite_true, ite_false, eq_self, and_self]
          rw [if_pos ⟨by omega, by omega⟩, show (0 : Int) + ((j : Int) - 0) = (j : Int) by omega]
          exact R1 j hj
      · intro j hj
        simp only [xcs_putf, xty_putf, xar_putf, xsz_putf, xsl_putf, xfl_putf, xcs_puta, xty_puta, xfl_puta, xsz_puta, xsl_puta, xar_puta, xcs_copy, xty_copy, xfl_copy, xsz_copy, xsl_copy, xar_copy, xcs_newo, xar_newo, xsz_newo, xsl_newo, xty_newo, xfl_newo, xcs_newa, xfl_newa, xsz_newa, xsl_newa, xty_newa, xar_newa, and_true, true_and, and_false, false_and, ite_true, ite_false, eq_self, and_self]
        rw [if_neg (fun e => by omega)]
        exact R1.left j hj
    · have late : xfl h1 w 51 ≤ m := Int.not_lt.mp late
      have hl := wys_rg (b := b) (V := V) (g := goal) TO (f + 1) u a m ⟨a0.1, by omega⟩ m0.1
      unfold WaccX at A1
      split at A1
      · omega
      · next a0 =>
        rw [wbO_late _ (fun x hx => ?_)]
        · exact A1
        · unfold wysP at hx
          rw [List.mem_map] at hx
          obtain ⟨x', hx', rfl⟩ := hx
          have := (hl x' hx').1
          show a0.1 ≤ x'.1
          omega
/-- the soonest way, its houses -/
def wbest (T : XTw) (V : Int → Int) (b : Bool) (i j m : Int) : Option (Int × List Int) := (wys T V b j 7 (1 * 2 ^ i.toNat) i m).foldl wbO none
/-- its minutes; -2 -/
def wmin (T : XTw) (V : Int → Int) (b : Bool) (i j m : Int) : Int := match wbest T V b i j m with
  | none => -2
  | some a => a.1 - m
theorem wbO_mem : ∀ (l : List (Int × List Int)) (acc : Option (Int × List Int)) (a : Int × List Int), l.foldl wbO acc = some a → some a = acc ∨ a ∈ l := by
  intro l
  induction l with
  | nil => intro acc a h; exact Or.inl h.symm
  | cons w l ih =>
    intro acc a h
    rcases ih _ _ h with q | q
    · unfold wbO at q
      split at q
      · cases q
        exact Or.inr List.mem_cons_self
      · split at q
        · cases q
          exact Or.inr List.mem_cons_self
        · exact Or.inl q
    · exact Or.inr (List.mem_cons_of_mem _ q)
theorem wbest_rg {T : XTw} {V : Int → Int} {b : Bool} {i j m : Int} {a : Int × List Int} (TO : TOK T) (i0 : 0 ≤ i ∧ i < tnh T) (m0 : 0 ≤ m) (h : wbest T V b i j m = some a) : m ≤ a.1 ∧ a.1 ≤ m + 10143 ∧ a.2 ≠ [] ∧ a.2.length ≤ 7 := by
  rcases wbO_mem _ _ _ h with q | q
  · cases q
  · have hn := TO.2.2.1
    have := wys_rg TO 7 _ i m ⟨i0.1, by omega⟩ m0 a q
    exact ⟨this.1, by omega, this.2.2.1, this.2.2.2⟩
theorem x_wseek {d : Nat} {h : XH} {B w r g t i j m n : Int} {b : Bool} {T : XTw} {V : Int → Int} (Y : w + 3 ≤ B ∧ B ≤ xsz h ∧ r + 4 ≤ w) (W : WaysL h w) (G : g < xsz h ∧ xty h g = some (true, if b = true then 6 else 5, none)) (L : RoomsL h r) (SN : SnapX h T r t V) (TX : TownX h B t T) (TO : TOK T) (VO : VOK T n V) (i0 : 0 ≤ i ∧ i < tnh T) (m0 : 0 ≤ m ∧ m ≤ 100000) : WpM (d + 14) 117 [.inr (.inr w), .inr (.inr t), .inr (.inr r), .inr (.inr g), .inl i, .inl j, .inl m] h (XRet fun v h' => v = some (.inl (match wbest T V b i j m with
    | none => 100000000
    | some a => a.1)) ∧ XFr (fun z f => z = w ∧ xfin f = false) (fun z => z = w + 1 ∨ z = w + 2) h h' ∧ xsz h' = xsz h ∧ xsl h' = xsl h ∧ WaccX h' w (wbest T V b i j m)) := by
  obtain ⟨w1, w2, w3, w4, w5⟩ := W
  have hn := TO.2.2.1
  have hx := x2k (k := i) ⟨i0.1, by omega⟩
  refine WpM.of rfl (Wp.vc 400 [42] rfl ?_)
  refine ⟨isW w1 rfl, isW w1 rfl, isW w1 rfl, isW w1 rfl, isW w1 rfl, isW w1 rfl, ⟨i0.1, by omega, hx.1, hx.2⟩, ?_⟩
  obtain ⟨h1, e1⟩ : ∃ h1, h1 = xputf (xputf (xputf (xputf (xputf (xputf h w 47 t) w 48 r) w 49 g) w 50 j) w 51 100000000) w 52 0 := ⟨_, rfl⟩
  have F : XFr (fun z f => z = w ∧ xfin f = false) (fun z => z = w + 1 ∨ z = w + 2) h h1 := by
    rw [e1]
    exact ((((((XFr.refl h).putf (Or.inr ⟨rfl, rfl⟩)).putf (Or.inr ⟨rfl, rfl⟩)).putf (Or.inr ⟨rfl, rfl⟩)).putf (Or.inr ⟨rfl, rfl⟩)).putf (Or.inr ⟨rfl, rfl⟩)).putf (Or.inr ⟨rfl, rfl⟩)
  have z : xsz h1 = xsz h ∧ xsl h1 = xsl h := by rw [e1]; exact ⟨rfl, rfl⟩
  have A1 : WaccX h1 w none := by
    rw [e1]
    refine ⟨?_, ?_⟩ <;> simp only [xcs_putf, xty_putf, xar_putf, xsz_putf, xsl_putf, xfl_putf, xcs_puta, xty_puta, xfl_puta, xsz_puta, xsl_puta, xar_puta, xcs_copy, xty_copy, xfl_copy, xsz_copy, xsl_copy, xar_copy, xcs_newo, xar_newo, xsz_newo, xsl_newo, xty_newo, xfl_newo, xcs_newa, xfl_newa, xsz_newa, xsl_newa, xty_newa, xar_newa, and_true, true_and, and_false, false_and, ite_true, ite_false, eq_self, and_self] <;> rfl
  have ty : ∀ x, xty h1 x = xty h x := by rw [e1]; intro x; rfl
  have C : WCtx h1 B w r g t n j b T V := by
    refine ⟨⟨Y.1, by omega, Y.2.2⟩, ⟨(ty _).trans w1, (ty _).trans w2, (ty _).trans w3, (F.2.2.2.1 w 45 (by omega) (fun e => by cases e.2)).trans w4, (F.2.2.2.1 w 46 (by omega) (fun e => by cases e.2)).trans w5⟩, ?_, ⟨by omega, (ty _).trans G.2⟩, L.keep F (fun f hf e => by omega), SN.keep F (by omega) (fun e => by omega) (fun e => by omega) (fun e => by omega) (fun e => by omega) (fun e => by omega), TX.keep (Above.of F (fun z f hz e => by omega) (fun z hz e => by omega)), TO, VO⟩
    rw [e1]
    refine ⟨?_, ?_, ?_, ?_⟩ <;> simp only [xcs_putf, xty_putf, xar_putf, xsz_putf, xsl_putf, xfl_putf, xcs_puta, xty_puta, xfl_puta, xsz_puta, xsl_puta, xar_puta, xcs_copy, xty_copy, xfl_copy, xsz_copy, xsl_copy, xar_copy, xcs_newo, xar_newo, xsz_newo, xsl_newo, xty_newo, xfl_newo, xcs_newa, xfl_newa, xsz_newa, xsl_newa, xty_newa, xar_newa, and_true, true_and, and_false, false_and, ite_true, ite_false, eq_self, and_self] <;> rfl
  rw [← e1]
  clear e1 w1 w2 w3 w4 w5
  have k := x_comes (goal := j) (b := b) 7 (d + 13) h1 (1 * 2 ^ i.toNat) i m [] none (by omega) rfl C (MskOK.one ⟨by omega, by omega⟩ i0.1 i0.2) i0 ⟨m0.1, by show m ≤ 100000 + 1449 * 0; omega⟩ (fun q hq => absurd hq (Nat.not_lt_zero _)) A1
  refine Wp.callR (j := 0) rfl (Nat.le_of_ble_eq_true rfl) ⟨true, C.2.1.1⟩ k (fun v h2 q => ?_)
  obtain ⟨rfl, q1, q2, -⟩ := q
  have e0 : wysP [] (wys T V b j 7 (1 * 2 ^ i.toNat) i m) = wys T V b j 7 (1 * 2 ^ i.toNat) i m := by
    unfold wysP
    simp
  rw [e0] at q2
  have A2 : WaccX h2 w (wbest T V b i j m) := q2
  have t2 := ((C.keep q1).2.1).1
  have F2 := F.trans q1.1 (W' := fun z f => z = w ∧ (f = 51 ∨ f = 52)) (fun z f _ e => ⟨e.1, by rcases e.2 with e | e <;> rw [e] <;> rfl⟩) (fun _ _ e => e)
  refine Wp.vc 400 [] rfl ?_
  refine ⟨isF t2 rfl, trivial, _, rfl, ?_, F2, q1.2.1.trans z.1, q1.2.2.trans z.2, A2⟩
  show some (Sum.inl (xfl h2 w 51)) = _
  unfold WaccX at A2
  split at A2
  · rw [A2.1]
  · rw [A2.1.1]
