/-! WALKS, 36: acts, WrongRoom: the state is written -/
set_option maxRecDepth 100000
set_option maxHeartbeats 4000000
def sPutV (S : XSt) (V : Int → Int) : XSt := (S.1, V, S.2.2)
def sPutU (S : XSt) (U : List (Int → Int)) : XSt := (S.1, S.2.1, U, S.2.2.2)
def sPutM (S : XSt) (M : List (Int → Int)) : XSt := (S.1, S.2.1, S.2.2.1, M, S.2.2.2.2)
def cutU (U : List (Int → Int)) : List (Int → Int) := if U.length = 16 then U.drop 1 else U
theorem cutU_len {U : List (Int → Int)} (h : U.length ≤ 16) : (cutU U).length ≤ 15 := by
  unfold cutU
  split
  · rw [List.length_drop]; omega
  · omega
/-- an act: how it was is put by, how it is is V, trouble 0 -/
def sAct (S : XSt) (V : Int → Int) : XSt := sPutU (sPutV (sSet S 0 (-1)) V) (cutU (sU S) ++ [sV S])
theorem Rx.re {h g : XH} {B s : Int} {S S' : XSt} (R : Rx h B s S) (p : XFr (XW s) (XA s) h g) (hT : sT S' = sT S) (f3 : xfl g s 3 = xfl h s 3) (tp : xfl g s 1 = ((sTp S').length : Int) ∧ ∀ j : Nat, j < (sTp S').length → xar g (s + 1) (j : Int) = (sTp S').getD j 0) (tr : xfl g s 4 = sTr S' ∧ (sTr S' = 4 → xfl g s 6 = sWh S') ∧ xfl g s 5 = sFa S') (cn : xfl g s 7 = ((sM S').length : Int) ∧ xfl g s 8 = ((sU S').length : Int)) (r : Int) (rot : 0 ≤ r ∧ r < 16 ∧ ∀ k : Int, 0 ≤ k → k < 16 → xar g (s + 47) k = s + 50 + 4 * ((k + r) % 16)) (sn : ∀ T, sT S = some T → SnapX g T (s + 5) (xfl g s 3) (sV S') ∧ (∀ (k : Nat) (V : Int → Int), (sU S')[k]? = some V → SnapX g T (s + 50 + 4 * (((k : Int) + r) % 16)) (xfl g s 3) V) ∧ ∀ (k : Nat) (V : Int → Int), (sM S')[k]? = some V → SnapX g T (s + 114 + 4 * (k : Int)) (xfl g s 3) V) : Rx g B s S' := by
  obtain ⟨⟨b0, b1, b2⟩, L, -, -, -, r0, -, RT⟩ := R
  have LL : XLay g s := L.keep p (fun z f _ _ hf w => by rw [w.2.2] at hf; cases hf) (fun w => by omega) (fun w => by omega)
  refine ⟨⟨b0, b1, by have := p.2.1; omega⟩, LL, tp, tr, cn, r, rot, ?_⟩
  clear L LL
  unfold RxT at RT ⊢
  rw [hT]
  cases e : sT S with
  | none =>
    rw [e] at RT
    exact f3.trans RT
  | some T =>
    rw [e] at RT
    refine ⟨?_, sn T e⟩
    rw [f3]
    exact RT.1.keep (Above.of p (fun z f hz _ _ w => by omega) (fun z hz w => by omega))
/-- the parts of Rx -/
theorem Rx.parts {h : XH} {B s : Int} {S : XSt} {T : XTw} (R : Rx h B s S) (e : sT S = some T) : ∃ r : Int, (0 ≤ r ∧ r < 16 ∧ ∀ k : Int, 0 ≤ k → k < 16 → xar h (s + 47) k = s + 50 + 4 * ((k + r) % 16)) ∧ SnapX h T (s + 5) (xfl h s 3) (sV S) ∧ (∀ (k : Nat) (V : Int → Int), (sU S)[k]? = some V → SnapX h T (s + 50 + 4 * (((k : Int) + r) % 16)) (xfl h s 3) V) ∧ ∀ (k : Nat) (V : Int → Int), (sM S)[k]? = some V → SnapX h T (s + 114 + 4 * (k : Int)) (xfl h s 3) V := by
  obtain ⟨-, -, -, -, -, r, rot, RT⟩ := R
  unfold RxT at RT
  rw [e] at RT
  exact ⟨r, rot, RT.2⟩
/-- how it is, is written anew -/
theorem XU.putV {B s n n' : Int} {h0 h g : XH} {S : XSt} {T : XTw} {V : Int → Int} (U : XU B s n h0 h S) (e : sT S = some T) (p : XFr (fun z f => z = s + 5 ∧ f = 44) (fun z => s + 6 ≤ z ∧ z ≤ s + 8) h g) (z1 : xsz g = xsz h) (z2 : xsl g = xsl h) (SN : SnapX g T (s + 5) (xfl g s 3) V) (O : SOK n' (sPutV S V)) : XU B s n' h0 g (sPutV S V) := by
  obtain ⟨R, O0, q, w1, w2⟩ := U
  obtain ⟨r, rot, -, su, sm⟩ := R.parts e
  have bnd := R.1
  have hm := O0.2.1.2
  have p' : XFr (XW s) (XA s) h g := p.mono (fun z f _ w => ⟨by omega, by omega, by rw [w.2]; rfl⟩) (fun z _ w => ⟨by omega, by omega, by omega, by omega⟩)
  have fl : ∀ f, xfl g s f = xfl h s f := fun f => p.2.2.2.1 s f (by omega) (fun w => by omega)
  have ar : ∀ c i : Int, (c = 1 ∨ c = 47) → xar g (s + c) i = xar h (s + c) i := fun c i hc => p.2.2.2.2 _ i (by omega) (fun w => by omega)
  have sk : ∀ (c : Int) (W : Int → Int), 50 ≤ c → c + 3 < 126 → SnapX h T (s + c) (xfl h s 3) W → SnapX g T (s + c) (xfl g s 3) W := fun c W c0 c1 q => by
    rw [fl 3]
    exact q.keep p (by omega) (fun w => by omega) (fun w => by omega) (fun w => by omega) (fun w => by omega) (fun w => by omega)
  refine ⟨R.re p' rfl (fl 3) ⟨(fl 1).trans R.2.2.1.1, fun j hj => (ar 1 _ (Or.inl rfl)).trans (R.2.2.1.2 j hj)⟩ ⟨(fl 4).trans R.2.2.2.1.1, fun e4 => (fl 6).trans (R.2.2.2.1.2.1 e4), (fl 5).trans R.2.2.2.1.2.2⟩ ⟨(fl 7).trans R.2.2.2.2.1.1, (fl 8).trans R.2.2.2.2.1.2⟩ r ⟨rot.1, rot.2.1, fun k k0 k1 => (ar 47 _ (Or.inr rfl)).trans (rot.2.2 k k0 k1)⟩ (fun T' e' => ?_), O, q.trans p' (fun _ _ _ w => w) (fun _ _ w => w), z1.trans w1, z2.trans w2⟩
  rw [e] at e'
  cases e'
  refine ⟨SN, fun k W hk => ?_, fun k W hk => ?_⟩
  · have q := su k W hk
    rw [Int.add_assoc] at q ⊢
    exact sk _ W (by omega) (by omega) q
  · have q := sm k W hk
    have hk3 := (List.getElem?_eq_some_iff.mp hk).1
    have hk3 : k < (sM S).length := hk3
    rw [Int.add_assoc] at q ⊢
    exact sk _ W (by omega) (by omega) q
/-- keep(): how it was is put by in was -/
theorem XU.keepK {d M pc np : Nat} {ls : XL} {st rest : XS} {B s n : Int} {h0 h : XH} {S : XSt} {T : XTw} {Q : XO → XH → Prop} (U : XU B s n h0 h S) (eT : sT S = some T) (e : xstK M pc 0 st = some (np, some 0, 61, [.inr (.inr s)], rest)) (hw : xwords rest ≤ 8) (k : ∀ h1, XU B s n h0 h1 S → SnapX h1 T (s + 9) (xfl h1 s 3) (sV S) → Wp (d + 2) M np ls rest h1 Q) : Wp (d + 2) M pc ls st h Q := by
  refine Wp.callR e hw ⟨true, U.ts⟩ (Q1 := fun v h' => v = none ∧ XU B s n h0 h' S ∧ SnapX h' T (s + 9) (xfl h' s 3) (sV S)) ?_ (fun v h1 q => by
    obtain ⟨rfl, q1, q2⟩ := q
    exact k h1 q1 q2)
  have ts := U.ts
  have TO := (U.ok eT).1
  obtain ⟨RT, hv, ne, TX, SN⟩ := U.rooms eT
  have f10 : xfl h s 10 = s + 9 := U.lay.2.2.2.2.2.1.1
  have L9 := U.lay.2.2.2.2.2.1.2
  have bnd := U.bnd
  refine WpM.of rfl (Wp.vc 400 [] rfl ?_)
  rw [f10, U.f9]
  refine ⟨isF ts rfl, isF ts rfl, ?_⟩
  refine Wp.becK TO L9 U.r5 SN (Or.inr (by omega)) rfl (Nat.le_of_ble_eq_true rfl) (fun h1 F1 S1 => ?_)
  have U1 : XU B s n h0 h1 S := U.scr (F1.1.mono (fun z f _ w => Or.inr (Or.inr ⟨by omega, by omega, by rcases w.2 with e | e <;> rw [e] <;> rfl⟩)) (fun z _ w => Or.inr (Or.inl ⟨by omega, by omega, by omega⟩))) F1.2.1 F1.2.2
  have t3 : xfl h1 s 3 = xfl h s 3 := F1.1.2.2.2.1 s 3 (by omega) (fun w => by omega)
  refine Wp.vc 400 [] rfl ?_
  refine ⟨trivial, none, rfl, rfl, U1, ?_⟩
  rw [t3]
  exact S1
/-- done(): the oldest goes where there is no more room -/
theorem x_rot {d : Nat} {h : XH} {B s n : Int} {h0 : XH} {S : XSt} {T : XTw} {Vo : Int → Int} {Q : XO → XH → Prop} (U : XU B s n h0 h S) (e : sT S = some T) (W : SnapX h T (s + 9) (xfl h s 3) Vo) (k : ∀ h1 l1 l2, XU B s n h0 h1 (sPutU S (cutU (sU S))) → SnapX h1 T (s + 9) (xfl h1 s 3) Vo → Wp d 62 62 [some (.inr (.inr s)), l1, l2] [] h1 Q) : Wp d 62 0 [some (.inr (.inr s)), none, none] [] h Q := by
  have ts := U.ts
  have f8 := U.1.2.2.2.2.1.2
  obtain ⟨r, rot, s5, su, sm⟩ := U.1.parts e
  have bnd := U.bnd
  have L := U.lay
  have hm := U.2.1.2.1
  refine Wp.vc 400 [62, 18] rfl ?_
  rw [f8]
  refine ⟨isF ts rfl, fun c => ?_, fun c => ?_⟩
  · have c : ¬ ((sU S).length : Int) = 16 := c
    refine k h _ _ ?_ W
    rw [show cutU (sU S) = sU S from if_neg (by omega)]
    exact U
  · have c : ((sU S).length : Int) = 16 := Decidable.of_not_not c
    obtain ⟨t47, f17⟩ := L.2.2.2.2.2.2.2.2.2.2.2.2.1
    have L16 := L.2.2.2.2.2.2.2.2.2.2.2.2.2.2.2.1
    have m1 : ∀ k : Int, 0 ≤ k % 16 ∧ k % 16 < 16 := fun k => by omega
    have rr := rot.2.2
    rw [f17, rr 0 (by decide) (by decide), Int.zero_add]
    refine ⟨isF ts rfl, isR t47 (by decide) (by decide) (by decide), ?_⟩
    clear L
    have key : ∀ (k : Int) (g : XH), k ≤ 16 → (1 ≤ k ∧ XFr (fun _ _ => False) (fun z => z = s + 47) h g ∧ xsz g = xsz h ∧ xsl g = xsl h ∧ (∀ j : Int, 0 ≤ j → j < k - 1 → xar g (s + 47) j = s + 50 + 4 * ((j + 1 + r) % 16)) ∧ ∀ j : Int, k - 1 ≤ j → j < 16 → xar g (s + 47) j = s + 50 + 4 * ((j + r) % 16)) → Wp d 62 18 [some (.inr (.inr s)), some (.inr (.inr (s + 50 + 4 * (r % 16)))), some (.inl k)] [] g Q := by
      refine loopUp (G := fun k g => Wp d 62 18 [some (.inr (.inr s)), some (.inr (.inr (s + 50 + 4 * (r % 16)))), some (.inl k)] [] g Q) 16 ?_ ?_
      · rintro k g ⟨k1, p, z1, z2, i1, i2⟩ hk ih
        have ty : ∀ x, x < xsz h → xty g x = xty h x := fun x hx => p.2.2.1 x hx
        have g17 : xfl g s 17 = s + 47 := (p.2.2.2.1 s 17 (by omega) (fun w => w)).trans f17
        have tg := (ty s (by omega)).trans ts
        have t47g := (ty (s + 47) (by omega)).trans t47
        have tv := (L16 ((k + r) % 16) (m1 _).1 (m1 _).2).2.1
        have tvg := (ty (s + 50 + 4 * ((k + r) % 16)) (by have := m1 (k + r); omega)).trans tv
        have ek := i2 k (by omega) (by omega)
        refine Wp.vc 400 [18] rfl ?_
        rw [g17, ek]
        refine ⟨fun w => absurd w (by omega), fun _ => ⟨isF tg rfl, ⟨by omega, by omega⟩, isF tg rfl, isR t47g (by decide) (by omega) (by omega), isS t47g (by omega) (by omega) tvg rfl, ⟨by omega, by omega⟩, ih _ ⟨by omega, p.puta (Or.inr rfl), z1, z2, fun j j0 j1 => ?_, fun j j0 j1 => ?_⟩⟩⟩
        · rw [xar_puta]
          by_cases e : j = k - 1
          · rw [if_pos ⟨rfl, e⟩, e, show k - 1 + 1 + r = k + r by omega]
          · rw [if_neg (fun w => e w.2)]
            exact i1 j j0 (by omega)
        · rw [xar_puta, if_neg (fun w => by omega)]
          exact i2 j (by omega) j1
      · rintro g ⟨k1, p, z1, z2, i1, i2⟩
        have ty : ∀ x, x < xsz h → xty g x = xty h x := fun x hx => p.2.2.1 x hx
        have flg : ∀ f, xfl g s f = xfl h s f := fun f => p.2.2.2.1 s f (by omega) (fun w => w)
        have tg := (ty s (by omega)).trans ts
        have t47g := (ty (s + 47) (by omega)).trans t47
        have tv := (L16 (r % 16) (m1 _).1 (m1 _).2).2.1
        have tvg := (ty (s + 50 + 4 * (r % 16)) (by have := m1 r; omega)).trans tv
        refine Wp.vc 400 [24, 62] rfl ?_
        rw [(flg 17).trans f17]
        refine ⟨fun _ => ⟨isF tg rfl, isS t47g (by decide) (by decide) tvg rfl, isF tg rfl, ?_⟩, fun w => absurd (Int.le_refl _) w⟩
        rw [show xfl (xputa g (s + 47) 15 (s + 50 + 4 * (r % 16))) s 8 = 16 from ((flg 8).trans f8).trans c]
        refine ⟨⟨by omega, by omega⟩, isW tg rfl, k _ _ _ ?_ ?_⟩
        · obtain ⟨R, O, q, w1, w2⟩ := U
          have p2 : XFr (fun z f => z = s ∧ f = 8) (fun z => z = s + 47) h (xputf (xputa g (s + 47) 15 (s + 50 + 4 * (r % 16))) s 8 (16 - 1)) := ((p.mono (fun _ _ _ w => w.elim) (fun _ _ w => w)).puta (Or.inr rfl)).putf (Or.inr ⟨rfl, rfl⟩)
          have p2' : XFr (XW s) (XA s) h (xputf (xputa g (s + 47) 15 (s + 50 + 4 * (r % 16))) s 8 (16 - 1)) := p2.mono (fun z f _ w => ⟨by omega, by omega, by rw [w.2]; rfl⟩) (fun z _ w => ⟨by omega, by omega, by omega, by omega⟩)
          have fl : ∀ f, f ≠ 8 → xfl (xputf (xputa g (s + 47) 15 (s + 50 + 4 * (r % 16))) s 8 (16 - 1)) s f = xfl h s f := fun f hf => p2.2.2.2.1 s f (by omega) (fun w => hf w.2)
          have f8' : xfl (xputf (xputa g (s + 47) 15 (s + 50 + 4 * (r % 16))) s 8 (16 - 1)) s 8 = 15 := by rw [xfl_putf, if_pos ⟨rfl, rfl⟩]; rfl
          have a47 : ∀ k : Int, 0 ≤ k → k < 16 → xar (xputf (xputa g (s + 47) 15 (s + 50 + 4 * (r % 16))) s 8 (16 - 1)) (s + 47) k = s + 50 + 4 * ((k + (r + 1) % 16) % 16) := fun k k0 k1 => by
            rw [xar_putf, xar_puta]
            by_cases e : k = 15
            · rw [if_pos ⟨rfl, e⟩, e]
              omega
            · rw [if_neg (fun w => e w.2), i1 k k0 (by omega)]
              omega
          obtain ⟨G, hG⟩ : ∃ G, G = xputf (xputa g (s + 47) 15 (s + 50 + 4 * (r % 16))) s 8 (16 - 1) := ⟨_, rfl⟩
          have zG : xsz G = xsz h ∧ xsl G = xsl h := by rw [hG]; exact ⟨z1, z2⟩
          rw [← hG] at p2 p2' fl f8' a47 ⊢
          clear hG p ty flg t47g tvg i1 i2
          have e15 : cutU (sU S) = (sU S).drop 1 := if_pos (by omega)
          have l15 : ((sU S).drop 1).length = 15 := by rw [List.length_drop]; omega
          have sk : ∀ (c : Int) (V : Int → Int), (c = 5 ∨ 50 ≤ c) → c + 3 < 126 → SnapX h T (s + c) (xfl h s 3) V → SnapX G T (s + c) (xfl G s 3) V := fun c V c0 c1 q => by
            rw [fl 3 (by decide)]
            exact q.keep p2 (by omega) (fun w => by omega) (fun w => by omega) (fun w => by omega) (fun w => by omega) (fun w => by omega)
          refine ⟨R.re p2' rfl (fl 3 (by decide)) ⟨(fl 1 (by decide)).trans R.2.2.1.1, fun j hj => (p2.2.2.2.2 _ _ (by omega) (fun w => by omega)).trans (R.2.2.1.2 j hj)⟩ ⟨(fl 4 (by decide)).trans R.2.2.2.1.1, fun e4 => (fl 6 (by decide)).trans (R.2.2.2.1.2.1 e4), (fl 5 (by decide)).trans R.2.2.2.1.2.2⟩ ⟨(fl 7 (by decide)).trans R.2.2.2.2.1.1, ?_⟩ ((r + 1) % 16) ⟨by omega, by omega, a47⟩ (fun T' e' => ?_), ?_, q.trans p2' (fun _ _ _ w => w) (fun _ _ w => w), zG.1.trans w1, zG.2.trans w2⟩
          · show xfl G s 8 = ((cutU (sU S)).length : Int)
            rw [e15, l15, f8']
            rfl
          · rw [e] at e'
            cases e'
            refine ⟨sk 5 _ (Or.inl rfl) (by decide) s5, fun k V hk => ?_, fun k V hk => ?_⟩
            · have hk : (cutU (sU S))[k]? = some V := hk
              rw [e15, List.getElem?_drop] at hk
              have q := su (1 + k) V hk
              have hk1 := (List.getElem?_eq_some_iff.mp hk).1
              rw [show ((1 + k : Nat) : Int) + r = (k : Int) + 1 + r by omega] at q
              rw [show ((k : Int) + (r + 1) % 16) % 16 = ((k : Int) + 1 + r) % 16 by omega]
              rw [Int.add_assoc] at q ⊢
              exact sk _ V (Or.inr (by omega)) (by omega) q
            · have q := sm k V hk
              have hk3 : k < (sM S).length := (List.getElem?_eq_some_iff.mp hk).1
              rw [Int.add_assoc] at q ⊢
              exact sk _ V (Or.inr (by omega)) (by omega) q
          · obtain ⟨o1, o2, o3, o4, o5, o6⟩ := O
            refine ⟨fun T' e' => ?_, ⟨?_, o2.2⟩, o3, o4, fun e' => ?_, o6⟩
            · obtain ⟨a, b, c', d'⟩ := o1 T' e'
              refine ⟨a, b, fun V hV => ?_, d'⟩
              have hV : V ∈ cutU (sU S) := hV
              rw [e15] at hV
              exact c' V (List.mem_of_mem_drop hV)
            · show (cutU (sU S)).length ≤ 16
              rw [e15, l15]
              decide
            · have e' : sT S = none := e'
              rw [e] at e'
              cases e'
        · have p2 : XFr (fun z f => z = s ∧ f = 8) (fun z => z = s + 47) h (xputf (xputa g (s + 47) 15 (s + 50 + 4 * (r % 16))) s 8 (16 - 1)) := ((p.mono (fun _ _ _ w => w.elim) (fun _ _ w => w)).puta (Or.inr rfl)).putf (Or.inr ⟨rfl, rfl⟩)
          rw [p2.2.2.2.1 s 3 (by omega) (fun w => by omega)]
          exact W.keep p2 (by omega) (fun w => by omega) (fun w => by omega) (fun w => by omega) (fun w => by omega) (fun w => by omega)
    exact key 1 h (by decide) ⟨Int.le_refl _, XFr.refl h, rfl, rfl, fun j j0 j1 => by omega, fun j j0 j1 => rr j (by omega) j1⟩
theorem XU.doneK {d M pc np : Nat} {ls : XL} {st rest : XS} {B s n : Int} {h0 h : XH} {S : XSt} {T : XTw} {Vo : Int → Int} {Q : XO → XH → Prop} (U : XU B s n h0 h S) (eT : sT S = some T) (W : SnapX h T (s + 9) (xfl h s 3) Vo) (VO : VOK T n Vo) (e : xstK M pc 0 st = some (np, some 0, 62, [.inr (.inr s)], rest)) (hw : xwords rest ≤ 8) (k : ∀ h1, XU B s n h0 h1 (sPutU S (cutU (sU S) ++ [Vo])) → Wp (d + 2) M np ls (.inl 1 :: rest) h1 Q) : Wp (d + 2) M pc ls st h Q := by
  refine Wp.callR e hw ⟨true, U.ts⟩ (Q1 := fun v h' => v = some (.inl 1) ∧ XU B s n h0 h' (sPutU S (cutU (sU S) ++ [Vo]))) ?_ (fun v h1 q => by
    obtain ⟨rfl, q1⟩ := q
    exact k h1 q1)
  refine WpM.of rfl (x_rot U eT W (fun h1 l1 l2 U1 W1 => ?_))
  have lu : (cutU (sU S)).length ≤ 15 := cutU_len U.2.1.2.1.1
  clear U W k
  have ts := U1.ts
  have f8 : xfl h1 s 8 = ((cutU (sU S)).length : Int) := U1.1.2.2.2.2.1.2
  obtain ⟨r, rot, s5, su, sm⟩ := U1.1.parts eT
  have bnd := U1.bnd
  have L := U1.lay
  have hm := U1.2.1.2.1
  have TO := (U1.ok eT).1
  obtain ⟨t47, f17⟩ := L.2.2.2.2.2.2.2.2.2.2.2.2.1
  have L16 := L.2.2.2.2.2.2.2.2.2.2.2.2.2.2.2.1
  have f10 : xfl h1 s 10 = s + 9 := L.2.2.2.2.2.1.1
  have L9 := L.2.2.2.2.2.1.2
  obtain ⟨len, hlen⟩ : ∃ len : Nat, len = (cutU (sU S)).length := ⟨_, rfl⟩
  rw [← hlen] at f8 lu
  have ra := rot.2.2 (len : Int) (by omega) (by omega)
  obtain ⟨a, ha⟩ : ∃ a : Int, a = s + 50 + 4 * (((len : Int) + r) % 16) := ⟨_, rfl⟩
  have La : RoomsL h1 a := by rw [ha]; exact L16 _ (by omega) (by omega)
  have abd : s + 50 ≤ a ∧ a ≤ s + 110 := by omega
  clear L L16
  refine Wp.vc 400 [] rfl ?_
  rw [f8, f17, f10, ra, ← ha]
  refine ⟨isF ts rfl, isF ts rfl, isR t47 (by decide) (by omega) (by omega), isF ts rfl, ?_⟩
  refine Wp.becK TO La L9 W1 (Or.inr (by omega)) rfl (Nat.le_of_ble_eq_true rfl) (fun h2 F2 S2 => ?_)
  have ts2 := (F2.1.2.2.1 s (by omega)).trans ts
  have fl2 : ∀ f, xfl h2 s f = xfl h1 s f := fun f => F2.1.2.2.2.1 s f (by omega) (fun w => by omega)
  refine Wp.vc 400 [] rfl ?_
  rw [(fl2 8).trans f8]
  refine ⟨isF ts2 rfl, by omega, isW ts2 rfl, ⟨by decide, by decide⟩, ?_⟩
  obtain ⟨R, O, q, w1, w2⟩ := U1
  have p2 : XFr (fun z f => (z = s ∧ f = 8) ∨ (z = a ∧ (f = 43 ∨ f = 44))) (fun z => a + 1 ≤ z ∧ z ≤ a + 3) h1 (xputf h2 s 8 ((len : Int) + 1)) := (F2.1.mono (fun _ _ _ w => Or.inr w) (fun _ _ w => w)).putf (Or.inr (Or.inl ⟨rfl, rfl⟩))
  have p2' : XFr (XW s) (XA s) h1 (xputf h2 s 8 ((len : Int) + 1)) := p2.mono (fun z f _ w => ⟨by omega, by omega, by
    rcases w with w | w
    · rw [w.2]; rfl
    · rcases w.2 with e | e <;> rw [e] <;> rfl⟩) (fun z _ w => ⟨by omega, by omega, by omega, by omega⟩)
  have fl : ∀ f, f ≠ 8 → xfl (xputf h2 s 8 ((len : Int) + 1)) s f = xfl h1 s f := fun f hf => p2.2.2.2.1 s f (by omega) (fun w => by omega)
  have f8' : xfl (xputf h2 s 8 ((len : Int) + 1)) s 8 = (len : Int) + 1 := by rw [xfl_putf, if_pos ⟨rfl, rfl⟩]
  have S2' : SnapX (xputf h2 s 8 ((len : Int) + 1)) T a (xfl h1 s 3) Vo := S2.keep (W := fun z f => z = s ∧ f = 8) (A := fun _ => False) ((XFr.refl h2).putf (Or.inr ⟨rfl, rfl⟩)) (by have := F2.2.1; omega) (fun w => by omega) (fun w => by omega) (fun w => w) (fun w => w) (fun w => w)
  have zz : xsz (xputf h2 s 8 ((len : Int) + 1)) = xsz h1 ∧ xsl (xputf h2 s 8 ((len : Int) + 1)) = xsl h1 := F2.2
  obtain ⟨G, hG⟩ : ∃ G, G = xputf h2 s 8 ((len : Int) + 1) := ⟨_, rfl⟩
  rw [← hG] at p2 p2' fl f8' S2' zz ⊢
  clear hG F2 S2 fl2 ts2
  have sk : ∀ (c : Int) (V : Int → Int), (c = 5 ∨ 50 ≤ c) → c + 3 < 126 → (s + c + 4 ≤ a ∨ a + 4 ≤ s + c) → SnapX h1 T (s + c) (xfl h1 s 3) V → SnapX G T (s + c) (xfl G s 3) V := fun c V c0 c1 c2 q => by
    rw [fl 3 (by decide)]
    exact q.keep p2 (by omega) (fun w => by omega) (fun w => by omega) (fun w => by omega) (fun w => by omega) (fun w => by omega)
  refine ⟨_, rfl, rfl, R.re p2' rfl (fl 3 (by decide)) ⟨(fl 1 (by decide)).trans R.2.2.1.1, fun j hj => (p2.2.2.2.2 _ _ (by omega) (fun w => by omega)).trans (R.2.2.1.2 j hj)⟩ ⟨(fl 4 (by decide)).trans R.2.2.2.1.1, fun e4 => (fl 6 (by decide)).trans (R.2.2.2.1.2.1 e4), (fl 5 (by decide)).trans R.2.2.2.1.2.2⟩ ⟨(fl 7 (by decide)).trans R.2.2.2.2.1.1, ?_⟩ r ⟨rot.1, rot.2.1, fun k k0 k1 => (p2.2.2.2.2 _ _ (by omega) (fun w => by omega)).trans (rot.2.2 k k0 k1)⟩ (fun T' e' => ?_), ?_, q.trans p2' (fun _ _ _ w => w) (fun _ _ w => w), zz.1.trans w1, zz.2.trans w2⟩
  · show xfl G s 8 = ((cutU (sU S) ++ [Vo]).length : Int)
    rw [f8', List.length_append, ← hlen]
    rfl
  · have e' : sT S = some T' := e'
    rw [eT] at e'
    cases e'
    refine ⟨sk 5 _ (Or.inl rfl) (by decide) (Or.inl (by omega)) s5, fun k V hk => ?_, fun k V hk => ?_⟩
    · have hk : (cutU (sU S) ++ [Vo])[k]? = some V := hk
      have hk1 : k < len + 1 := by
        have := (List.getElem?_eq_some_iff.mp hk).1
        rw [List.length_append, ← hlen] at this
        exact this
      by_cases ek : k = len
      · rw [ek, hlen, List.getElem?_append_right (Nat.le_refl _), Nat.sub_self] at hk
        cases hk
        rw [ek, ← ha, fl 3 (by decide)]
        exact S2'
      · rw [List.getElem?_append_left (by omega)] at hk
        have q := su k V hk
        rw [Int.add_assoc] at q ⊢
        exact sk _ V (Or.inr (by omega)) (by omega) (by omega) q
    · have q := sm k V hk
      have hk3 : k < (sM S).length := (List.getElem?_eq_some_iff.mp hk).1
      have hm3 : (sM S).length ≤ 3 := hm.2
      rw [Int.add_assoc] at q ⊢
      exact sk _ V (Or.inr (by omega)) (by omega) (Or.inr (by omega)) q
  · obtain ⟨o1, o2, o3, o4, o5, o6⟩ := O
    refine ⟨fun T' e' => ?_, ⟨?_, o2.2⟩, o3, o4, fun e' => ?_, o6⟩
    · obtain ⟨a', b', c', d'⟩ := o1 T' e'
      refine ⟨a', b', fun V hV => ?_, d'⟩
      have hV : V ∈ cutU (sU S) ++ [Vo] := hV
      rcases List.mem_append.mp hV with w | w
      · exact c' V w
      · have w := List.mem_singleton.mp w
        subst w
        have e' : sT S = some T' := e'
        rw [eT] at e'
        cases e'
        exact VO
    · show (cutU (sU S) ++ [Vo]).length ≤ 16
      rw [List.length_append, ← hlen]
      show len + 1 ≤ 16
      omega
    · have e' : sT S = none := e'
      rw [eT] at e'
      cases e'
