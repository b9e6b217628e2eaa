/-! WALKS, 38: acts, WrongRoom, on -/
set_option maxRecDepth 100000
set_option maxHeartbeats 4000000
def ariv (T : XTw) (V : Int → Int) (i g mm : Int) : Int := if V i = g ∧ vOpen T V i mm then (if tst T i g = 0 ∨ tsc T 0 < tst T i g then mm + tsc T 0 else mm + tst T i g) else if tst T i g = 0 then 100000000 else mm + tst T i g
theorem x_arrives {d : Nat} {h : XH} {B a t i g mm n : Int} {T : XTw} {V : Int → Int} (L : RoomsL h a) (SN : SnapX h T a t V) (TX : TownX h B t T) (TO : TOK T) (VO : VOK T n V) (i0 : 0 ≤ i ∧ i < tnh T) (g0 : 0 ≤ g ∧ g < tnh T) (m0 : 0 ≤ mm ∧ mm ≤ 1000000) : WpM (d + 3) 115 [.inr (.inr a), .inl i, .inl g, .inl mm] h (XE (some (.inl (ariv T V i g mm))) h) := by
  have hn := TO.2.2.1
  have ta := L.2.1
  have t1 := L.2.2.1
  have f40 := L.2.2.2.2.2.1
  have hv := SN.2.1 i i0.1 i0.2
  have h43 := SN.1
  have ct := TX.1.2.2
  have st := x_Tstreet (d := d + 2) TX (i := i) (j := g) ⟨i0.1, by omega⟩ ⟨g0.1, by omega⟩
  have op := x_RisOpen (d := d) L SN TX TO VO i0 m0.1
  have rg := TO.2.2.2.2.2.2.1 i g i0.1 (by omega) g0.1 (by omega)
  have dr := TO.1
  have e109 : xfl h t 109 = tsc T 0 := TX.2.2.1.1
  clear L SN VO TX TO
  have at28 : ∀ b : Int, (b = if tst T i g = 0 then 100000000 else mm + tst T i g) → Wp (d + 3) 115 28 [some (.inr (.inr a)), some (.inl i), some (.inl g), some (.inl mm), none] [.inl b] h (XE (some (.inl (ariv T V i g mm))) h) := by
    intro b hb
    refine Wp.vc 400 [66] rfl ?_
    rw [f40, hv]
    have at66 : ¬ (V i = g ∧ vOpen T V i mm) → Wp (d + 3) 115 66 [some (.inr (.inr a)), some (.inl i), some (.inl g), some (.inl mm), some (.inl b)] [] h (XE (some (.inl (ariv T V i g mm))) h) := by
      intro c
      rw [show ariv T V i g mm = b by unfold ariv; rw [if_neg c, hb]]
      refine Wp.vc 400 [] rfl ?_
      exact ⟨trivial, rfl, rfl⟩
    refine ⟨isF ta rfl, isA t1 i0.1 (by omega), fun c => at66 (fun w => c w.1), fun c => ?_⟩
    have c : V i = g := Decidable.of_not_not c
    refine Wp.callE (j := 0) rfl (Nat.le_of_ble_eq_true rfl) ⟨true, ta⟩ op ?_
    by_cases c2 : vOpen T V i mm
    · rw [if_pos c2]
      have ea : ariv T V i g mm = if mm + tsc T 0 < b then mm + tsc T 0 else b := by
        unfold ariv
        rw [if_pos ⟨c, c2⟩, hb]
        by_cases q : tst T i g = 0
        · rw [if_pos (Or.inl q), if_pos q, if_pos (by omega)]
        · rw [if_neg q]
          by_cases q2 : tsc T 0 < tst T i g
          · rw [if_pos (Or.inr q2), if_pos (by omega)]
          · rw [if_neg (by omega), if_neg (by omega)]
      rw [ea]
      refine Wp.vc 400 [66] rfl ?_
      rw [h43, e109]
      exact ⟨fun w => absurd w (by decide), fun _ => ⟨isF ta rfl, isF ct rfl, by omega, trivial, rfl, rfl⟩⟩
    · rw [if_neg c2]
      refine Wp.vc 400 [66] rfl ?_
      exact ⟨fun _ => at66 (fun w => c2 w.2), fun w => absurd rfl w⟩
  refine WpM.of rfl (Wp.vc 400 [28] rfl ?_)
  rw [h43]
  refine ⟨isF ta rfl, ?_⟩
  refine Wp.callE (j := 0) rfl (Nat.le_of_ble_eq_true rfl) ⟨true, ct⟩ st ?_
  by_cases q : tst T i g = 0
  · rw [q]
    refine Wp.vc 400 [28] rfl ?_
    exact ⟨fun _ => at28 _ (by rw [if_pos q]), fun w => absurd (Int.le_refl _) w⟩
  · refine Wp.vc 400 [28] rfl ?_
    rw [h43]
    refine ⟨fun w => absurd w (by omega), fun _ => ⟨isF ta rfl, ?_⟩⟩
    refine Wp.callE (j := 0) rfl (Nat.le_of_ble_eq_true rfl) ⟨true, ct⟩ st ?_
    refine Wp.vc 400 [28] rfl ?_
    exact ⟨by omega, at28 _ (by rw [if_neg q])⟩
theorem ariv_go {T : XTw} {V : Int → Int} {p g : Int} (TO : TOK T) (i0 : 0 ≤ V (8 + p) ∧ V (8 + p) < tnh T) (g0 : 0 ≤ g ∧ g < tnh T) : ariv T V (V (8 + p)) g (V (12 + p)) = (if goM T V p g = 0 then 100000000 else V (12 + p) + goM T V p g) ∧ 0 ≤ goM T V p g ∧ goM T V p g ≤ 99 := by
  have hn := TO.2.2.1
  have rg := TO.2.2.2.2.2.2.1 (V (8 + p)) g i0.1 (by omega) g0.1 (by omega)
  have dr := TO.1
  by_cases c : V (V (8 + p)) = g ∧ vOpen T V (V (8 + p)) (V (12 + p))
  · by_cases c2 : tst T (V (8 + p)) g = 0 ∨ tsc T 0 < tst T (V (8 + p)) g
    · have e1 : goM T V p g = tsc T 0 := if_pos ⟨c, c2⟩
      have e2 : ariv T V (V (8 + p)) g (V (12 + p)) = V (12 + p) + tsc T 0 := (if_pos c).trans (if_pos c2)
      rw [e1, e2, if_neg (by omega)]
      exact ⟨rfl, by omega, by omega⟩
    · have e1 : goM T V p g = tst T (V (8 + p)) g := if_neg (fun w => c2 w.2)
      have e2 : ariv T V (V (8 + p)) g (V (12 + p)) = V (12 + p) + tst T (V (8 + p)) g := (if_pos c).trans (if_neg c2)
      rw [e1, e2, if_neg (by omega)]
      exact ⟨rfl, by omega, by omega⟩
  · have e1 : goM T V p g = tst T (V (8 + p)) g := if_neg (fun w => c w.1)
    by_cases c2 : tst T (V (8 + p)) g = 0
    · have e2 : ariv T V (V (8 + p)) g (V (12 + p)) = 100000000 := (if_neg c).trans (if_pos c2)
      rw [e1, e2, if_pos c2]
      exact ⟨rfl, by omega, by omega⟩
    · have e2 : ariv T V (V (8 + p)) g (V (12 + p)) = V (12 + p) + tst T (V (8 + p)) g := (if_neg c).trans (if_neg c2)
      rw [e1, e2, if_neg c2]
      exact ⟨rfl, by omega, by omega⟩
theorem opGo_no {S : XSt} {p g : Int} (h : ¬ (isPer S p ∧ isHou S g)) : opGo S p g = sNo S 1 := by
  unfold opGo
  by_cases hp : isPer S p
  · obtain ⟨T, e, p0⟩ := id hp
    rw [onP_yes e p0]
    exact if_neg (fun w => h ⟨hp, T, e, w⟩)
  · exact onP_no hp
theorem opGo_yes {S : XSt} {p g : Int} {T : XTw} (e : sT S = some T) (p0 : 0 ≤ p ∧ p < tpm T) (g0 : 0 ≤ g ∧ g < tnh T) : opGo S p g = if goM T (sV S) p g = 0 then sNo S 5 else (sV S (12 + p) + goM T (sV S) p g, sAct S (goV (sV S) p g (sV S (12 + p) + goM T (sV S) p g))) := by
  unfold opGo
  rw [onP_yes e p0]
  exact if_pos g0
theorem x_opGo {d : Nat} {h : XH} {B s n p g : Int} {S : XSt} (R : Rx h B s S) (O : SOK n S) (n63 : n ≤ 63) : WpM (d + 4) 64 [.inr (.inr s), .inl p, .inl g] h (XAn B s h (.inl (opGo S p g).1) (opGo S p g).2) := by
  refine WpM.of rfl (Wp.vc 400 [] rfl ?_)
  refine XU.anew R O rfl (Nat.zero_le _) (fun h1 U => ?_)
  have bad : opGo S p g = sNo S 1 → Wp (d + 4) 64 20 [some (.inr (.inr s)), some (.inl p), some (.inl g), none] [] h1 (XAn B s h (.inl (opGo S p g).1) (opGo S p g).2) := by
    intro e
    rw [e]
    refine Wp.vc 400 [] rfl ?_
    exact U.no (k := 1) (by decide) rfl (fun _ => rfl) rfl
  refine Wp.vc 400 [] rfl ?_
  refine XU.per (d := d + 2) U rfl (Nat.zero_le _) (fun T e p0 => ?_) (fun hp => ?_)
  · refine Wp.vc 400 [20] rfl ?_
    first | refine ⟨fun _ => ?_, fun c => absurd (by decide) c⟩ | refine ⟨fun c => absurd c (by decide), fun _ => ?_⟩
    refine XU.hou (d := d + 2) U rfl (Nat.zero_le _) (fun T' e' g0 => ?_) (fun hp => ?_)
    · rw [e] at e'
      cases e'
      obtain ⟨RT, hv, ne, TX, SN⟩ := U.rooms e
      obtain ⟨TO, VO⟩ := U.ok e
      have VO : VOK T n (sV S) := VO
      have SN : SnapX h1 T (s + 5) (xfl h1 s 3) (sV S) := SN
      have hpm := TO.2.2.2.1
      have vq := VO.2.2.2.2 p p0.1 p0.2
      have sq := SN.2.2.2 p p0.1 p0.2
      have n64 : n ≤ 64 := by omega
      have ar := x_arrives (d := d) (g := g) (mm := sV S (12 + p)) U.r5 SN TX TO VO vq.1 g0 ⟨vq.2.1, by have := vq.2.2; omega⟩
      obtain ⟨ag, g1, g2⟩ := ariv_go TO vq.1 g0
      have ar : WpM (d + 3) 115 [.inr (.inr (s + 5)), .inl (sV S (8 + p)), .inl g, .inl (sV S (12 + p))] h1 (XE (some (.inl (if goM T (sV S) p g = 0 then 100000000 else sV S (12 + p) + goM T (sV S) p g))) h1) := by
        rw [← ag]
        exact ar
      have f9 := U.f9
      have tR := RT.1
      have ts := U.ts
      have f41 := tR.2.2.2.2.2.2.1
      have f42 := tR.2.2.2.2.2.2.2
      have q1 : xar h1 (s + 5 + 2) p = sV S (8 + p) := sq.1
      have q2 : xar h1 (s + 5 + 3) p = sV S (12 + p) := sq.2
      have v2 := vq.2
      have v2 : 0 ≤ sV S (12 + p) ∧ sV S (12 + p) ≤ 1000 * n := v2
      clear TX SN hv
      rw [opGo_yes (S := S) e p0 g0]
      refine Wp.vc 400 [20] rfl ?_
      rw [f9, f41, f42, q1, q2]
      refine ⟨fun _ => ⟨isF ts rfl, isF ts rfl, isF tR.2.1 rfl, isA tR.2.2.2.1 p0.1 (by omega), isF ts rfl, isF tR.2.1 rfl, isA tR.2.2.2.2.1 p0.1 (by omega), ?_⟩, fun w => absurd (show ¬ (1 : Int) = 0 by decide) w⟩
      refine Wp.callE (j := 0) rfl (Nat.le_of_ble_eq_true rfl) ⟨true, tR.2.1⟩ ar ?_
      by_cases c : goM T (sV S) p g = 0
      · rw [if_pos c, if_pos c]
        refine Wp.vc 400 [20] rfl ?_
        refine ⟨fun w => absurd rfl w, fun _ => ?_⟩
        exact U.no (k := 5) (by decide) rfl (fun _ => rfl) rfl
      · rw [if_neg c, if_neg c]
        refine Wp.vc 400 [20] rfl ?_
        refine ⟨fun _ => ?_, fun w => absurd (Decidable.of_not_not w) (by omega)⟩
        refine XU.keepK (d := d + 2) U e rfl (Nat.le_of_ble_eq_true rfl) (fun h2 U2 W2 => ?_)
        have ts2 := U2.ts
        have b2 := U2.bnd
        have tR2 := U2.r5
        have f9' := U2.f9
        have tq : 0 ≤ sV S (12 + p) + goM T (sV S) p g ∧ sV S (12 + p) + goM T (sV S) p g ≤ 1000 * (n + 1) := by omega
        obtain ⟨k, hk⟩ : ∃ k, k = xputa (xputa h2 (s + 5 + 2) p g) (s + 5 + 3) p (sV S (12 + p) + goM T (sV S) p g) := ⟨_, rfl⟩
        obtain ⟨U3, W3⟩ := U2.goK (k := k) e p0 g0 tq n63 (by rw [hk]; exact ((XFr.refl h2).puta (Or.inr ⟨by omega, by omega⟩)).puta (Or.inr ⟨by omega, by omega⟩)) (by rw [hk]; exact ⟨rfl, rfl⟩) (by rw [hk]; intro a f; rfl) (fun q => by rw [hk, xar_puta, if_neg (fun w => by omega), xar_puta, if_neg (fun w => by omega)]) (fun q => by
          rw [hk, xar_puta, if_neg (fun w => by omega), xar_puta]
          by_cases c : q = p
          · rw [if_pos ⟨rfl, c⟩, if_pos c]
          · rw [if_neg (fun w => c w.2), if_neg c]) (fun q => by
          rw [hk, xar_puta]
          by_cases c : q = p
          · rw [if_pos ⟨rfl, c⟩, if_pos c]
          · rw [if_neg (fun w => c w.2), if_neg c, xar_puta, if_neg (fun w => by omega)]) W2
        refine Wp.vc 400 [20] rfl ?_
        rw [f9', tR2.2.2.2.2.2.2.1, show xfl (xputa h2 (s + 5 + 2) p g) s 9 = s + 5 from f9', show xfl (xputa h2 (s + 5 + 2) p g) (s + 5) 42 = s + 5 + 3 from tR2.2.2.2.2.2.2.2, ← hk]
        refine ⟨isF ts2 rfl, isF tR2.2.1 rfl, isB tR2.2.2.2.1 p0.1 (by omega), isF ts2 rfl, isF tR2.2.1 rfl, isB tR2.2.2.2.2.1 p0.1 (by omega), ?_⟩
        refine U3.doneK (d := d + 2) e W3 (VO.mono (by omega)) rfl (Nat.le_of_ble_eq_true rfl) (fun h4 U4 => ?_)
        refine Wp.vc 400 [20] rfl ?_
        exact ⟨trivial, U4.ret⟩
    · refine Wp.vc 400 [20] rfl ?_
      exact ⟨fun w => absurd rfl w, fun _ => bad (opGo_no (fun w => hp w.2))⟩
  · refine Wp.vc 400 [20] rfl ?_
    exact ⟨fun _ => bad (opGo_no (fun w => hp w.1)), fun w => absurd rfl w⟩
theorem x_opWaits {d : Nat} {h : XH} {B s n p m : Int} {S : XSt} (R : Rx h B s S) (O : SOK n S) (n63 : n ≤ 63) : WpM (d + 2) 65 [.inr (.inr s), .inl p, .inl m] h (XAn B s h (.inl (opWaits S p m).1) (opWaits S p m).2) := by
  refine WpM.of rfl (Wp.vc 400 [] rfl ?_)
  refine XU.anew R O rfl (Nat.zero_le _) (fun h1 U => ?_)
  refine Wp.vc 400 [] rfl ?_
  refine U.per rfl (Nat.zero_le _) (fun T e p0 => ?_) (fun hp => ?_)
  · rw [show opWaits S p m = _ from onP_yes e p0]
    obtain ⟨TO, VO⟩ := U.ok e
    have VO : VOK T n (sV S) := VO
    have hpm := TO.2.2.2.1
    have vq := VO.2.2.2.2 p p0.1 p0.2
    have v2 : 0 ≤ sV S (12 + p) ∧ sV S (12 + p) ≤ 1000 * n := vq.2
    refine Wp.vc 400 [] rfl ?_
    refine ⟨fun _ => ?_, fun w => absurd (show ¬ (1 : Int) = 0 by decide) w⟩
    refine Wp.callE (j := 0) rfl (Nat.le_of_ble_eq_true rfl) trivial (x_in m 1 999) ?_
    by_cases c : 1 ≤ m ∧ m ≤ 999
    · rw [if_pos c, if_pos c]
      refine Wp.vc 400 [] rfl ?_
      refine ⟨fun _ => ?_, fun w => absurd (show ¬ (1 : Int) = 0 by decide) w⟩
      refine U.keepK e rfl (Nat.le_of_ble_eq_true rfl) (fun h2 U2 W2 => ?_)
      obtain ⟨-, -, -, -, SN⟩ := U2.rooms e
      have sq := SN.2.2.2 p p0.1 p0.2
      have q1 : xar h2 (s + 5 + 2) p = sV S (8 + p) := sq.1
      have q2 : xar h2 (s + 5 + 3) p = sV S (12 + p) := sq.2
      have ts2 := U2.ts
      have b2 := U2.bnd
      have tR2 := U2.r5
      have f9' := U2.f9
      have tq : 0 ≤ sV S (12 + p) + m ∧ sV S (12 + p) + m ≤ 1000 * (n + 1) := by omega
      obtain ⟨k, hk⟩ : ∃ k, k = xputa h2 (s + 5 + 3) p (sV S (12 + p) + m) := ⟨_, rfl⟩
      obtain ⟨U3, W3⟩ := U2.goK (k := k) (g := sV S (8 + p)) e p0 vq.1 tq n63 (by rw [hk]; exact (XFr.refl h2).puta (Or.inr ⟨by omega, by omega⟩)) (by rw [hk]; exact ⟨rfl, rfl⟩) (by rw [hk]; intro a f; rfl) (fun q => by rw [hk, xar_puta, if_neg (fun w => by omega)]) (fun q => by
        rw [hk, xar_puta, if_neg (fun w => by omega)]
        by_cases c : q = p
        · rw [if_pos c, c, q1]
        · rw [if_neg c]) (fun q => by
        rw [hk, xar_puta]
        by_cases c : q = p
        · rw [if_pos ⟨rfl, c⟩, if_pos c]
        · rw [if_neg (fun w => c w.2), if_neg c]) W2
      refine Wp.vc 400 [] rfl ?_
      rw [f9', tR2.2.2.2.2.2.2.2, q2, ← hk]
      refine ⟨isF ts2 rfl, isF tR2.2.1 rfl, isA tR2.2.2.2.2.1 p0.1 (by omega), by omega, isB tR2.2.2.2.2.1 p0.1 (by omega), ?_⟩
      refine U3.doneK e W3 (VO.mono (by omega)) rfl (Nat.le_of_ble_eq_true rfl) (fun h4 U4 => ?_)
      obtain ⟨-, -, -, -, SN4⟩ := U4.rooms e
      have sq4 : xar h4 (s + 5 + 3) p = goV (sV S) p (sV S (8 + p)) (sV S (12 + p) + m) (12 + p) := (SN4.2.2.2 p p0.1 p0.2).2
      have tR4 := U4.r5
      refine Wp.vc 400 [] rfl ?_
      rw [U4.f9, tR4.2.2.2.2.2.2.2, sq4, show goV (sV S) p (sV S (8 + p)) (sV S (12 + p) + m) (12 + p) = sV S (12 + p) + m by unfold goV; rw [if_neg (by omega), if_pos rfl]]
      exact ⟨isF U4.ts rfl, isF tR4.2.1 rfl, isA tR4.2.2.2.2.1 p0.1 (by omega), trivial, U4.ret⟩
    · rw [if_neg c, if_neg c]
      refine Wp.vc 400 [] rfl ?_
      refine ⟨fun w => absurd rfl w, fun _ => ?_⟩
      exact U.no (k := 2) (by decide) rfl (fun _ => rfl) rfl
  · rw [show opWaits S p m = _ from onP_no hp]
    refine Wp.vc 400 [] rfl ?_
    first | refine ⟨fun _ => ?_, fun c => absurd (by decide) c⟩ | refine ⟨fun c => absurd c (by decide), fun _ => ?_⟩
    exact U.no (k := 1) (by decide) rfl (fun _ => rfl) rfl
/-- back to how it was -/
def sBack (S : XSt) (V : Int → Int) (U : List (Int → Int)) : XSt := sPutU (sPutV (sSet S 0 (-1)) V) U
def opUndo (S : XSt) : Int × XSt := match (sU S).getLast? with
  | none => sNoB S 6
  | some V => (1, sBack S V (sU S).dropLast)
def opMark (S : XSt) : Int × XSt := onT S fun _ => if (sM S).length = 3 then sNo S 3 else (((sM S).length : Int), sPutM (sSet S 0 (-1)) (sM S ++ [sV S]))
def opBack (S : XSt) (k : Int) : Int × XSt := match (if 0 ≤ k then (sM S)[k.toNat]? else none) with
  | none => sNoB S 1
  | some V => (1, sBack S V [])
theorem SOK.back {n : Int} {S : XSt} {T : XTw} {V : Int → Int} {U : List (Int → Int)} (O : SOK n S) (e : sT S = some T) (VO : VOK T n V) (hU : ∀ W ∈ U, VOK T n W) (hl : U.length ≤ 16) : SOK n (sPutU (sPutV S V) U) := by
  obtain ⟨o1, o2, o3, o4, o5, o6⟩ := O
  refine ⟨fun T' e' => ?_, ⟨hl, o2.2⟩, o3, o4, fun e' => ?_, o6⟩
  · have e' : sT S = some T' := e'
    rw [e] at e'
    cases e'
    exact ⟨(o1 T e).1, VO, hU, (o1 T e).2.2.2⟩
  · have e' : sT S = none := e'
    rw [e] at e'
    cases e'
/-- rooms become as V, the stack is U -/
theorem XU.back {B s n : Int} {h0 h g : XH} {S : XSt} {T : XTw} {V : Int → Int} {Us : List (Int → Int)} (U : XU B s n h0 h S) (e : sT S = some T) (p : XFr (fun z f => (z = s ∧ f = 8) ∨ (z = s + 5 ∧ (f = 43 ∨ f = 44))) (fun z => s + 6 ≤ z ∧ z ≤ s + 8) h g) (z1 : xsz g = xsz h) (z2 : xsl g = xsl h) (SN : SnapX g T (s + 5) (xfl g s 3) V) (f8 : xfl g s 8 = (Us.length : Int)) (hs : ∀ (k : Nat) (W : Int → Int), Us[k]? = some W → (sU S)[k]? = some W) (VO : VOK T n V) : XU B s n h0 g (sPutU (sPutV S V) Us) := by
  obtain ⟨R, O0, q, w1, w2⟩ := U
  obtain ⟨r, rot, -, su, sm⟩ := R.parts e
  have bnd := R.1
  have hm := O0.2.1
  have hl : Us.length ≤ (sU S).length := by
    refine Nat.le_of_not_lt fun w => ?_
    have h1 := hs (sU S).length _ (List.getElem?_eq_getElem w)
    have := (List.getElem?_eq_some_iff.mp h1).1
    omega
  have p' : XFr (XW s) (XA s) h g := p.mono (fun z f _ w => ⟨by omega, by omega, by
    rcases w with w | w
    · rw [w.2]; rfl
    · rcases w.2 with e | e <;> rw [e] <;> rfl⟩) (fun z _ w => ⟨by omega, by omega, by omega, by omega⟩)
  have fl : ∀ f, f ≠ 8 → xfl g s f = xfl h s f := fun f hf => p.2.2.2.1 s f (by omega) (fun w => by omega)
  have ar : ∀ c i : Int, (c = 1 ∨ c = 47) → xar g (s + c) i = xar h (s + c) i := fun c i hc => p.2.2.2.2 _ i (by omega) (fun w => by omega)
  have sk : ∀ (c : Int) (W : Int → Int), 50 ≤ c → c + 3 < 126 → SnapX h T (s + c) (xfl h s 3) W → SnapX g T (s + c) (xfl g s 3) W := fun c W c0 c1 q => by
    rw [fl 3 (by decide)]
    exact q.keep p (by omega) (fun w => by omega) (fun w => by omega) (fun w => by omega) (fun w => by omega) (fun w => by omega)
  refine ⟨R.re p' rfl (fl 3 (by decide)) ⟨(fl 1 (by decide)).trans R.2.2.1.1, fun j hj => (ar 1 _ (Or.inl rfl)).trans (R.2.2.1.2 j hj)⟩ ⟨(fl 4 (by decide)).trans R.2.2.2.1.1, fun e4 => (fl 6 (by decide)).trans (R.2.2.2.1.2.1 e4), (fl 5 (by decide)).trans R.2.2.2.1.2.2⟩ ⟨(fl 7 (by decide)).trans R.2.2.2.2.1.1, f8⟩ r ⟨rot.1, rot.2.1, fun k k0 k1 => (ar 47 _ (Or.inr rfl)).trans (rot.2.2 k k0 k1)⟩ (fun T' e' => ?_), ?_, q.trans p' (fun _ _ _ w => w) (fun _ _ w => w), z1.trans w1, z2.trans w2⟩
  · rw [e] at e'
    cases e'
    refine ⟨SN, fun k W hk => ?_, fun k W hk => ?_⟩
    · have q := su k W (hs k W hk)
      rw [Int.add_assoc] at q ⊢
      exact sk _ W (by omega) (by omega) q
    · have q := sm k W hk
      have hk3 : k < (sM S).length := (List.getElem?_eq_some_iff.mp hk).1
      rw [Int.add_assoc] at q ⊢
      exact sk _ W (by omega) (by omega) q
  · exact SOK.back O0 e VO (fun W hW => by
      obtain ⟨k, hk⟩ := List.getElem?_of_mem hW
      exact (O0.1 T e).2.2.1 W (List.mem_of_getElem? (hs k W hk))) (by omega)
theorem sOKU_T {n : Int} {S : XSt} (O : SOK n S) (h : sU S ≠ []) : ∃ T, sT S = some T := by
  cases e : sT S with
  | none => exact absurd (O.2.2.2.2.1 e).1 h
  | some T => exact ⟨T, rfl⟩
theorem sOKM_T {n : Int} {S : XSt} (O : SOK n S) (h : sM S ≠ []) : ∃ T, sT S = some T := by
  cases e : sT S with
  | none => exact absurd (O.2.2.2.2.1 e).2 h
  | some T => exact ⟨T, rfl⟩
theorem x_opUndo {d : Nat} {h : XH} {B s n : Int} {S : XSt} (R : Rx h B s S) (O : SOK n S) : WpM (d + 2) 66 [.inr (.inr s)] h (XAn B s h (.inl (opUndo S).1) (opUndo S).2) := by
  have U := XU.init R O
  have ts := U.ts
  have f8 := R.2.2.2.2.1.2
  have l16 := O.2.1.1
  unfold opUndo
  cases eL : (sU S).getLast? with
  | none =>
    have e0 : sU S = [] := List.getLast?_eq_none_iff.mp eL
    refine WpM.of rfl (Wp.vc 400 [14] rfl ?_)
    rw [f8, e0]
    refine ⟨isF ts rfl, fun w => absurd rfl w, fun _ => ?_⟩
    refine XU.yesK U (k := 6) (by decide) rfl (Nat.le_of_ble_eq_true rfl) (fun h1 U1 => ?_)
    rw [if_neg (by decide)]
    refine Wp.vc 400 [] rfl ?_
    exact ⟨fun w => absurd rfl w, fun _ => ⟨⟨by decide, by decide⟩, U1.ret⟩⟩
  | some V =>
    have ne : sU S ≠ [] := fun w => by rw [w] at eL; cases eL
    obtain ⟨T, e⟩ := sOKU_T O ne
    have hl : 0 < (sU S).length := List.length_pos_iff.mpr ne
    have hg : (sU S)[(sU S).length - 1]? = some V := by rw [← List.getLast?_eq_getElem?]; exact eL
    have VV := (O.1 T e).2.2.1 V (List.mem_of_getElem? hg)
    refine WpM.of rfl (Wp.vc 400 [14] rfl ?_)
    rw [f8]
    refine ⟨isF ts rfl, fun _ => ?_, fun w => absurd (Decidable.of_not_not w) (by omega)⟩
    refine XU.yesK U (k := 0) (by decide) rfl (Nat.le_of_ble_eq_true rfl) (fun h1 U1 => ?_)
    rw [if_pos rfl]
    have ts1 := U1.ts
    have TO := (U1.ok e).1
    obtain ⟨r, rot, s5, su, sm⟩ := U1.1.parts e
    have L := U1.lay
    obtain ⟨t47, f17⟩ := L.2.2.2.2.2.2.2.2.2.2.2.2.1
    have L16 := L.2.2.2.2.2.2.2.2.2.2.2.2.2.2.2.1
    have f8' : xfl h1 s 8 = ((sU S).length : Int) := U1.1.2.2.2.2.1.2
    have bnd := U1.bnd
    have sl := su ((sU S).length - 1) V hg
    have c1 : (((sU S).length - 1 : Nat) : Int) = ((sU S).length : Int) - 1 := by omega
    rw [c1] at sl
    have ra := rot.2.2 (((sU S).length : Int) - 1) (by omega) (by omega)
    have La := L16 ((((sU S).length : Int) - 1 + r) % 16) (by omega) (by omega)
    obtain ⟨a, ha⟩ : ∃ a : Int, a = s + 50 + 4 * ((((sU S).length : Int) - 1 + r) % 16) := ⟨_, rfl⟩
    rw [← ha] at sl ra La
    have abd : s + 50 ≤ a ∧ a ≤ s + 110 := by omega
    have L5 := U1.r5
    have f9 := U1.f9
    clear L L16
    refine Wp.vc 400 [] rfl ?_
    rw [f8', show xfl (xputf h1 s 8 (((sU S).length : Int) - 1)) s 9 = s + 5 from (by (first | assumption | ((try simp only [xcs_putf, xty_putf, xar_putf, xsz_putf, xsl_putf, xfl_putf, xcs_puta, xty_puta, xfl_puta, xsz_puta, xsl_puta, xar_puta, xcs_copy, xty_copy, xfl_copy, xsz_copy, xsl_copy, xar_copy, xcs_newo, xar_newo, xsz_newo, xsl_newo, xty_newo, xfl_newo, xcs_newa, xfl_newa, xsz_newa, xsl_newa, xty_newa, xar_newa, and_true, true_and, and_false, false_and, ite_true, ite_false, eq_self, and_self]) <;> (repeat (first | rw [if_pos (by omega)] | rw [if_neg (by omega)])) <;> (first | assumption | rfl | omega)))), show xfl (xputf h1 s 8 (((sU S).length : Int) - 1)) s 17 = s + 47 from (by (first | assumption | ((try simp only [xcs_putf, xty_putf, xar_putf, xsz_putf, xsl_putf, xfl_putf, xcs_puta, xty_puta, xfl_puta, xsz_puta, xsl_puta, xar_puta, xcs_copy, xty_copy, xfl_copy, xsz_copy, xsl_copy, xar_copy, xcs_newo, xar_newo, xsz_newo, xsl_newo, xty_newo, xfl_newo, xcs_newa, xfl_newa, xsz_newa, xsl_newa, xty_newa, xar_newa, and_true, true_and, and_false, false_and, ite_true, ite_false, eq_self, and_self]) <;> (repeat (first | rw [if_pos (by omega)] | rw [if_neg (by omega)])) <;> (first | assumption | rfl | omega)))), show xfl (xputf h1 s 8 (((sU S).length : Int) - 1)) s 8 = ((sU S).length : Int) - 1 by rw [xfl_putf, if_pos ⟨rfl, rfl⟩], show xar (xputf h1 s 8 (((sU S).length : Int) - 1)) (s + 47) (((sU S).length : Int) - 1) = a from ra]
    refine ⟨fun _ => ⟨isF ts1 rfl, by omega, isW ts1 rfl, isF ts1 rfl, isF ts1 rfl, isF ts1 rfl, isR t47 (by decide) (by omega) (by omega), ?_⟩, fun w => absurd (show ¬ (1 : Int) = 0 by decide) w⟩
    have p0 : XFr (fun z f => z = s ∧ f = 8) (fun _ => False) h1 (xputf h1 s 8 (((sU S).length : Int) - 1)) := (XFr.refl h1).putf (Or.inr ⟨rfl, rfl⟩)
    have f8'' : xfl (xputf h1 s 8 (((sU S).length : Int) - 1)) s 8 = ((sU S).length : Int) - 1 := by rw [xfl_putf, if_pos ⟨rfl, rfl⟩]
    have zz : xsz (xputf h1 s 8 (((sU S).length : Int) - 1)) = xsz h1 ∧ xsl (xputf h1 s 8 (((sU S).length : Int) - 1)) = xsl h1 := ⟨rfl, rfl⟩
    obtain ⟨G, hG⟩ : ∃ G, G = xputf h1 s 8 (((sU S).length : Int) - 1) := ⟨_, rfl⟩
    rw [← hG] at p0 f8'' zz ⊢
    clear hG
    refine Wp.becK TO (L5.keep p0 (fun f hf w => by omega)) (La.keep p0 (fun f hf w => by omega)) (sl.keep p0 (by omega) (fun w => by omega) (fun w => by omega) (fun w => w) (fun w => w) (fun w => w)) (Or.inl (by omega)) rfl (Nat.le_of_ble_eq_true rfl) (fun h2 F2 S2 => ?_)
    have t3 : xfl h2 s 3 = xfl h1 s 3 := (F2.1.2.2.2.1 s 3 (by omega) (fun w => by omega)).trans (p0.2.2.2.1 s 3 (by omega) (fun w => by omega))
    have UU := U1.back (Us := (sU S).dropLast) (V := V) e (p := (p0.mono (fun z f _ w => Or.inl w) (fun _ _ w => w.elim)).trans F2.1 (fun z f _ w => Or.inr w) (fun z _ w => by omega)) (F2.2.1.trans zz.1) (F2.2.2.trans zz.2) (by rw [t3]; exact S2) (by
      rw [(F2.1.2.2.2.1 s 8 (by omega) (fun w => by omega)).trans f8'', List.length_dropLast]
      omega) (fun k W hk => by
      rw [List.getElem?_dropLast] at hk
      split at hk
      · exact hk
      · cases hk) VV
    refine Wp.vc 400 [] rfl ?_
    exact ⟨⟨by decide, by decide⟩, UU.ret⟩
theorem opBack_no {S : XSt} {k : Int} (h : ¬ (0 ≤ k ∧ k < ((sM S).length : Int))) : opBack S k = sNoB S 1 := by
  unfold opBack
  by_cases c : 0 ≤ k
  · rw [if_pos c, List.getElem?_eq_none (by omega)]
  · rw [if_neg c]
theorem opBack_yes {S : XSt} {k : Int} {V : Int → Int} (h : 0 ≤ k) (e : (sM S)[k.toNat]? = some V) : opBack S k = (1, sBack S V []) := by
  unfold opBack
  rw [if_pos h, e]
theorem x_opBack {d : Nat} {h : XH} {B s n k : Int} {S : XSt} (R : Rx h B s S) (O : SOK n S) : WpM (d + 2) 68 [.inr (.inr s), .inl k] h (XAn B s h (.inl (opBack S k).1) (opBack S k).2) := by
  have U := XU.init R O
  have ts := U.ts
  have f7 := R.2.2.2.2.1.1
  have l3 := O.2.1.2
  refine WpM.of rfl (Wp.vc 400 [20] rfl ?_)
  rw [f7]
  refine ⟨isF ts rfl, by omega, ?_⟩
  refine Wp.callE (j := 0) rfl (Nat.le_of_ble_eq_true rfl) trivial (x_in k 0 _) ?_
  by_cases c : 0 ≤ k ∧ k < ((sM S).length : Int)
  · rw [if_pos (by omega)]
    have hk : k.toNat < (sM S).length := by omega
    obtain ⟨V, hV⟩ : ∃ V, (sM S)[k.toNat]? = some V := ⟨_, List.getElem?_eq_getElem hk⟩
    rw [opBack_yes c.1 hV]
    have ne : sM S ≠ [] := fun w => by rw [w] at hk; exact absurd hk (Nat.not_lt_zero _)
    obtain ⟨T, e⟩ := sOKM_T O ne
    have VV := (O.1 T e).2.2.2 V (List.mem_of_getElem? hV)
    refine Wp.vc 400 [20] rfl ?_
    refine ⟨fun w => absurd w (by decide), fun _ => ?_⟩
    refine XU.yesK U (k := 0) (by decide) rfl (Nat.le_of_ble_eq_true rfl) (fun h1 U1 => ?_)
    rw [if_pos rfl]
    have ts1 := U1.ts
    have TO := (U1.ok e).1
    obtain ⟨r, rot, s5, su, sm⟩ := U1.1.parts e
    have L := U1.lay
    obtain ⟨t48, f18⟩ := L.2.2.2.2.2.2.2.2.2.2.2.2.2.1
    have RM := L.2.2.2.2.2.2.2.2.2.2.2.2.2.2.2.2
    have bnd := U1.bnd
    have sl := sm k.toNat V hV
    rw [show ((k.toNat : Nat) : Int) = k by omega] at sl
    obtain ⟨La, ra⟩ := RM k c.1 (by omega)
    have L5 := U1.r5
    have f9 := U1.f9
    clear L RM
    refine Wp.vc 400 [] rfl ?_
    rw [f9, f18, ra]
    refine ⟨fun _ => ⟨isF ts1 rfl, isF ts1 rfl, isR t48 (by decide) c.1 (by omega), ?_⟩, fun w => absurd (show ¬ (1 : Int) = 0 by decide) w⟩
    refine Wp.becK TO L5 La sl (Or.inl (by omega)) rfl (Nat.le_of_ble_eq_true rfl) (fun h2 F2 S2 => ?_)
    have ts2 := (F2.1.2.2.1 s (by omega)).trans ts1
    have p0 : XFr (fun z f => z = s ∧ f = 8) (fun _ => False) h2 (xputf h2 s 8 0) := (XFr.refl h2).putf (Or.inr ⟨rfl, rfl⟩)
    have t3 : xfl (xputf h2 s 8 0) s 3 = xfl h1 s 3 := (p0.2.2.2.1 s 3 (by have := F2.2.1; omega) (fun w => by omega)).trans (F2.1.2.2.2.1 s 3 (by omega) (fun w => by omega))
    have UU := U1.back (Us := []) (V := V) e (p := (F2.1.mono (fun z f _ w => Or.inr w) (fun z _ w => by omega)).trans p0 (fun z f _ w => Or.inl w) (fun z _ w => w.elim)) F2.2.1 F2.2.2 (by
      rw [t3]
      exact S2.keep p0 (by have := F2.2.1; omega) (fun w => by omega) (fun w => by omega) (fun w => w) (fun w => w) (fun w => w)) (by rw [xfl_putf, if_pos ⟨rfl, rfl⟩]; rfl) (fun k W hk => by simp at hk) VV
    refine Wp.vc 400 [] rfl ?_
    exact ⟨isW ts2 rfl, ⟨by decide, by decide⟩, UU.ret⟩
  · rw [if_neg (by omega), opBack_no c]
    refine Wp.vc 400 [20] rfl ?_
    refine ⟨fun _ => ?_, fun w => absurd rfl w⟩
    refine XU.yesK U (k := 1) (by decide) rfl (Nat.le_of_ble_eq_true rfl) (fun h1 U1 => ?_)
    rw [if_neg (by decide)]
    refine Wp.vc 400 [] rfl ?_
    exact ⟨fun w => absurd rfl w, fun _ => ⟨⟨by decide, by decide⟩, U1.ret⟩⟩
theorem SOK.mark {n : Int} {S : XSt} {T : XTw} (O : SOK n S) (e : sT S = some T) (h : (sM S).length ≠ 3) : SOK n (sPutM S (sM S ++ [sV S])) := by
  obtain ⟨o1, o2, o3, o4, o5, o6⟩ := O
  refine ⟨fun T' e' => ?_, ⟨o2.1, ?_⟩, o3, o4, fun e' => ?_, o6⟩
  · obtain ⟨a, b, c, d⟩ := o1 T' e'
    refine ⟨a, b, c, fun V hV => ?_⟩
    have hV : V ∈ sM S ++ [sV S] := hV
    rcases List.mem_append.mp hV with w | w
    · exact d V w
    · have w := List.mem_singleton.mp w
      subst w
      exact b
  · show (sM S ++ [sV S]).length ≤ 3
    rw [List.length_append]
    show (sM S).length + 1 ≤ 3
    omega
  · have e' : sT S = none := e'
    rw [e] at e'
    cases e'
theorem x_opMark {d : Nat} {h : XH} {B s n : Int} {S : XSt} (R : Rx h B s S) (O : SOK n S) : WpM (d + 1) 67 [.inr (.inr s)] h (XAn B s h (.inl (opMark S).1) (opMark S).2) := by
  refine WpM.of rfl (Wp.vc 400 [] rfl ?_)
  refine XU.anew R O rfl (Nat.zero_le _) (fun h1 U => ?_)
  have ts := U.ts
  cases e : sT S with
  | none =>
    rw [show opMark S = _ from onT_no e]
    refine Wp.vc 400 [] rfl ?_
    rw [U.noT e]
    (repeat (refine And.intro (by first | exact trivial | exact isF (by assumption) rfl | exact isW (by assumption) rfl | exact isA (by assumption) (by omega) (by omega) | exact isB (by assumption) (by omega) (by omega) | exact isR (by assumption) (by decide) (by omega) (by omega) | (refine ⟨by omega, by omega⟩)) ?_))
    refine ⟨fun w => absurd rfl w, fun _ => ?_⟩
    exact U.no (k := 1) (by decide) rfl (fun _ => rfl) rfl
  | some T =>
    rw [show opMark S = _ from onT_yes e]
    obtain ⟨-, -, ne, -⟩ := U.rooms e
    have f7 : xfl h1 s 7 = ((sM S).length : Int) := U.1.2.2.2.2.1.1
    have l3 : (sM S).length ≤ 3 := O.2.1.2
    by_cases c : (sM S).length = 3
    · rw [if_pos c]
      refine Wp.vc 400 [] rfl ?_
      rw [f7, c]
      refine ⟨isF ts rfl, fun _ => ⟨isF ts rfl, fun w => absurd rfl w, fun _ => ?_⟩, fun w => absurd ne w⟩
      exact U.no (k := 3) (by decide) rfl (fun _ => rfl) rfl
    · rw [if_neg c]
      have TO := (U.ok e).1
      obtain ⟨r, rot, s5, su, sm⟩ := U.1.parts e
      have L := U.lay
      obtain ⟨t48, f18⟩ := L.2.2.2.2.2.2.2.2.2.2.2.2.2.1
      have RM := L.2.2.2.2.2.2.2.2.2.2.2.2.2.2.2.2
      have bnd := U.bnd
      obtain ⟨La, ra⟩ := RM ((sM S).length : Int) (by omega) (by omega)
      have L5 := U.r5
      have f9 := U.f9
      clear L RM
      refine Wp.vc 400 [] rfl ?_
      rw [f7, f9, f18, ra]
      refine ⟨isF ts rfl, fun _ => ⟨isF ts rfl, fun _ => ⟨isF ts rfl, isF ts rfl, isR t48 (by decide) (by omega) (by omega), isF ts rfl, ?_⟩, fun w => absurd (Decidable.of_not_not w) (by omega)⟩, fun w => absurd ne w⟩
      refine Wp.becK TO La L5 s5 (Or.inr (by omega)) rfl (Nat.le_of_ble_eq_true rfl) (fun h2 F2 S2 => ?_)
      have ts2 := (F2.1.2.2.1 s (by omega)).trans ts
      have f7' : xfl h2 s 7 = ((sM S).length : Int) := (F2.1.2.2.2.1 s 7 (by omega) (fun w => by omega)).trans f7
      have p0 : XFr (fun z f => z = s ∧ f = 7) (fun _ => False) h2 (xputf h2 s 7 (((sM S).length : Int) + 1)) := (XFr.refl h2).putf (Or.inr ⟨rfl, rfl⟩)
      have z2 := F2.2
      have f7'' : xfl (xputf h2 s 7 (((sM S).length : Int) + 1)) s 7 = ((sM S).length : Int) + 1 := by rw [xfl_putf, if_pos ⟨rfl, rfl⟩]
      refine Wp.vc 400 [] rfl ?_
      rw [f7', f7'']
      refine ⟨isF ts2 rfl, by omega, isW ts2 rfl, isF ts2 rfl, by omega, trivial, ?_⟩
      rw [show ((sM S).length : Int) + 1 - 1 = ((sM S).length : Int) by omega]
      have zz : xsz (xputf h2 s 7 (((sM S).length : Int) + 1)) = xsz h2 ∧ xsl (xputf h2 s 7 (((sM S).length : Int) + 1)) = xsl h2 := ⟨rfl, rfl⟩
      obtain ⟨G, hG⟩ : ∃ G, G = xputf h2 s 7 (((sM S).length : Int) + 1) := ⟨_, rfl⟩
      rw [← hG] at p0 f7'' zz ⊢
      clear hG
      obtain ⟨a, ha⟩ : ∃ a : Int, a = s + 114 + 4 * ((sM S).length : Int) := ⟨_, rfl⟩
      rw [← ha] at F2 S2 La
      have pp : XFr (fun z f => (z = s ∧ f = 7) ∨ (z = a ∧ (f = 43 ∨ f = 44))) (fun z => a + 1 ≤ z ∧ z ≤ a + 3) h1 G := (F2.1.mono (fun _ _ _ w => Or.inr w) (fun _ _ w => w)).trans p0 (fun _ _ _ w => Or.inl w) (fun _ _ w => w.elim)
      have pp' : XFr (XW s) (XA s) h1 G := pp.mono (fun z f _ w => ⟨by omega, by omega, by
        rcases w with w | w
        · rw [w.2]; rfl
        · rcases w.2 with e | e <;> rw [e] <;> rfl⟩) (fun z _ w => ⟨by omega, by omega, by omega, by omega⟩)
      have fl : ∀ f, f ≠ 7 → xfl G s f = xfl h1 s f := fun f hf => pp.2.2.2.1 s f (by omega) (fun w => by omega)
      have SG : SnapX G T a (xfl h1 s 3) (sV S) := S2.keep p0 (by omega) (fun w => by omega) (fun w => by omega) (fun w => w) (fun w => w) (fun w => w)
      have sk : ∀ (c : Int) (V : Int → Int), (c = 5 ∨ 50 ≤ c) → c + 3 < 126 → s + c + 4 ≤ a → SnapX h1 T (s + c) (xfl h1 s 3) V → SnapX G T (s + c) (xfl G s 3) V := fun c V c0 c1 c2 q => by
        rw [fl 3 (by decide)]
        exact q.keep pp (by omega) (fun w => by omega) (fun w => by omega) (fun w => by omega) (fun w => by omega) (fun w => by omega)
      obtain ⟨R1, O1, q, w1, w2⟩ := U
      refine XAns.mk (R1.re pp' rfl (fl 3 (by decide)) ⟨(fl 1 (by decide)).trans R1.2.2.1.1, fun j hj => (pp.2.2.2.2 _ _ (by omega) (fun w => by omega)).trans (R1.2.2.1.2 j hj)⟩ ⟨(fl 4 (by decide)).trans R1.2.2.2.1.1, fun e4 => (fl 6 (by decide)).trans (R1.2.2.2.1.2.1 e4), (fl 5 (by decide)).trans R1.2.2.2.1.2.2⟩ ⟨?_, (fl 8 (by decide)).trans R1.2.2.2.2.1.2⟩ r ⟨rot.1, rot.2.1, fun k k0 k1 => (pp.2.2.2.2 _ _ (by omega) (fun w => by omega)).trans (rot.2.2 k k0 k1)⟩ (fun T' e' => ?_)) (q.trans pp' (fun _ _ _ w => w) (fun _ _ w => w)) ((zz.1.trans z2.1).trans w1) ((zz.2.trans z2.2).trans w2)
      · show xfl G s 7 = ((sM S ++ [sV S]).length : Int)
        rw [f7'', List.length_append]
        rfl
      · have e' : sT S = some T' := e'
        rw [e] at e'
        cases e'
        refine ⟨sk 5 _ (Or.inl rfl) (by decide) (by omega) s5, fun k V hk => ?_, fun k V hk => ?_⟩
        · have q := su k V hk
          rw [Int.add_assoc] at q ⊢
          exact sk _ V (Or.inr (by omega)) (by omega) (by omega) q
        · have hk : (sM S ++ [sV S])[k]? = some V := hk
          have hk1 : k < (sM S).length + 1 := by
            have := (List.getElem?_eq_some_iff.mp hk).1
            rw [List.length_append] at this
            exact this
          by_cases ek : k = (sM S).length
          · rw [ek, List.getElem?_append_right (Nat.le_refl _), Nat.sub_self] at hk
            cases hk
            rw [ek, ← ha, fl 3 (by decide)]
            exact SG
          · rw [List.getElem?_append_left (by omega)] at hk
            have q := sm k V hk
            rw [Int.add_assoc] at q ⊢
            exact sk _ V (Or.inr (by omega)) (by omega) (by omega) q
