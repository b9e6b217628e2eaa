/-! WALKS, 44: fits, could, surely, firstOf, ask, askLeaves: WrongRoom -/
set_option maxRecDepth 100000
set_option maxHeartbeats 4000000
noncomputable def opFits (S : XSt) : Int × XSt := onT S fun T => sOk S ((fitL T (sV S)).length : Int)
noncomputable def opCould (S : XSt) (i : Int) : Int × XSt := onH S i fun T => sOk S (couS (fitL T (sV S)) (tnh T) i)
def surV (L : List (Int → Int)) (n i : Int) : Int := if L.length = 0 then -2 else xfst (fun g => decide (cntL L i g = (L.length : Int))) n.toNat 0
noncomputable def opSurely (S : XSt) (i : Int) : Int × XSt := onH S i fun T => sOk S (surV (fitL T (sV S)) (tnh T) i)
def fstV (L : List (Int → Int)) (i : Int) : Int := match L.head? with
  | none => -2
  | some r => r i
noncomputable def opFirstOf (S : XSt) (i : Int) : Int × XSt := onH S i fun T => sOk S (fstV (fitL T (sV S)) i)
def lea1 (L : List (Int → Int)) (i m g : Int) : Int := if m < cntL L i g then cntL L i g else m
def leaV (L : List (Int → Int)) (n i : Int) : Int := (nds n).foldl (lea1 L i) 0
theorem leaV_succ {L : List (Int → Int)} {i k : Int} (h : 0 ≤ k) : leaV L (k + 1) i = lea1 L i (leaV L k i) k := by
  unfold leaV
  rw [nds_succ h, List.foldl_append]
  rfl
def ask1 (L : List (Int → Int)) (V : Int → Int) (n b i : Int) : Int := if V i = -2 then (if b = -2 ∨ leaV L n i < leaV L n b then i else b) else b
def askF (L : List (Int → Int)) (V : Int → Int) (n k : Int) : Int := (nds k).foldl (ask1 L V n) (-2)
theorem askF_succ {L : List (Int → Int)} {V : Int → Int} {n k : Int} (h : 0 ≤ k) : askF L V n (k + 1) = ask1 L V n (askF L V n k) k := by
  unfold askF
  rw [nds_succ h, List.foldl_append]
  rfl
theorem askF_rg {L : List (Int → Int)} {V : Int → Int} {n : Int} : ∀ k : Nat, askF L V n k = -2 ∨ (0 ≤ askF L V n k ∧ askF L V n k < k) := by
  intro k
  induction k with
  | zero => exact Or.inl rfl
  | succ k ih =>
    rw [show ((k + 1 : Nat) : Int) = (k : Int) + 1 by omega, askF_succ (by omega)]
    unfold ask1
    split
    · split
      · exact Or.inr ⟨by omega, by omega⟩
      · omega
    · omega
def askV (L : List (Int → Int)) (V : Int → Int) (n : Int) : Int := if L.length = 0 then -2 else askF L V n n
noncomputable def opAsk (S : XSt) : Int × XSt := onT S fun T => sOk S (askV (fitL T (sV S)) (sV S) (tnh T))
noncomputable def opAskLeaves (S : XSt) : Int × XSt := onT S fun T => sOk S (if askV (fitL T (sV S)) (sV S) (tnh T) = -2 then -2 else leaV (fitL T (sV S)) (tnh T) (askV (fitL T (sV S)) (sV S) (tnh T)))
theorem x_leaves {d : Nat} {h : XH} {B w r t n i : Int} {T : XTw} {V : Int → Int} {L : List (Int → Int)} (C : RCtx h B w r t n T V) (A : RowsX h w (tnh T) L) (i0 : 0 ≤ i ∧ i < tnh T) : WpM d 133 [.inr (.inr w), .inl i] h (XE (some (.inl (leaV L (tnh T) i))) h) := by
  obtain ⟨w1, w2, w3, w4, w5, w6, w7, w8, w9⟩ := C.2.1
  have f57 := C.2.2.1.1
  have TX := C.2.2.2.2.2.1
  have hn := C.2.2.2.2.2.2.1.2.2.1
  have ct := TX.1.2.2
  have e111 : xfl h t 111 = tnh T := TX.2.2.1.2.2.1
  have a4 := A.2.2.2
  clear TX C A
  refine WpM.of rfl (Wp.vc 400 [4] rfl ?_)
  have key : ∀ (k : Int) (g : XH), k ≤ tnh T → (0 ≤ k ∧ g = h) → Wp d 133 4 [some (.inr (.inr w)), some (.inl i), some (.inl (leaV L k i)), some (.inl k)] [] g (XE (some (.inl (leaV L (tnh T) i))) h) := by
    refine loopUp (G := fun k g => Wp d 133 4 [some (.inr (.inr w)), some (.inl i), some (.inl (leaV L k i)), some (.inl k)] [] g (XE (some (.inl (leaV L (tnh T) i))) h)) (tnh T) ?_ ?_
    · rintro k g ⟨k0, rfl⟩ hk ih
      have ih := ih g ⟨by omega, rfl⟩
      rw [leaV_succ k0] at ih
      unfold lea1 at ih
      refine Wp.vc 400 [4] rfl ?_
      rw [f57, e111, w9, a4 i k i0.1 i0.2 k0 hk]
      exact ⟨isF w1 rfl, isF ct rfl, fun e => absurd e (by omega), fun _ => ⟨isF w1 rfl, by omega, by omega, isA w5 (by omega) (by omega), by omega, ih⟩⟩
    · rintro g ⟨k0, rfl⟩
      refine Wp.vc 400 [4] rfl ?_
      rw [f57, e111]
      exact ⟨isF w1 rfl, isF ct rfl, fun _ => ⟨trivial, rfl, rfl⟩, fun e => absurd (Int.le_refl _) e⟩
  exact key 0 h (by omega) ⟨Int.le_refl _, rfl⟩
theorem x_surelyR {d : Nat} {h : XH} {B w r t n i : Int} {T : XTw} {V : Int → Int} {L : List (Int → Int)} (C : RCtx h B w r t n T V) (A : RowsX h w (tnh T) L) (i0 : 0 ≤ i ∧ i < tnh T) : WpM d 131 [.inr (.inr w), .inl i] h (XE (some (.inl (surV L (tnh T) i))) h) := by
  obtain ⟨w1, w2, w3, w4, w5, w6, w7, w8, w9⟩ := C.2.1
  have f57 := C.2.2.1.1
  have TX := C.2.2.2.2.2.1
  have hn := C.2.2.2.2.2.2.1.2.2.1
  have ct := TX.1.2.2
  have e111 : xfl h t 111 = tnh T := TX.2.2.1.2.2.1
  have a1 := A.1
  have a4 := A.2.2.2
  clear TX C A
  unfold surV
  by_cases c : L.length = 0
  · rw [if_pos c]
    refine WpM.of rfl (Wp.vc 400 [20, 46] rfl ?_)
    rw [f57, e111, a1, c]
    have fin : Wp d 131 46 [some (.inr (.inr w)), some (.inl i), some (.inl 0)] [] h (XE (some (.inl (-2))) h) := by
      refine Wp.vc 400 [] rfl ?_
      exact ⟨trivial, rfl, rfl⟩
    exact ⟨isF w1 rfl, isF ct rfl, fun _ => fin, fun _ => ⟨isF w1 rfl, fun _ => fin, fun e => absurd (Int.le_refl 0) e⟩⟩
  · rw [if_neg c]
    refine WpM.of rfl (Wp.vc 400 [2] rfl ?_)
    have key : ∀ (k : Int) (g : XH), k ≤ tnh T → (0 ≤ k ∧ g = h) → Wp d 131 2 [some (.inr (.inr w)), some (.inl i), some (.inl k)] [] g (XE (some (.inl (xfst (fun g => decide (cntL L i g = (L.length : Int))) (tnh T - k).toNat k))) h) := by
      refine loopUp (G := fun k g => Wp d 131 2 [some (.inr (.inr w)), some (.inl i), some (.inl k)] [] g (XE (some (.inl (xfst (fun g => decide (cntL L i g = (L.length : Int))) (tnh T - k).toNat k))) h)) (tnh T) ?_ ?_
      · rintro k g ⟨k0, rfl⟩ hk ih
        have ih := ih g ⟨by omega, rfl⟩
        rw [xfst_st hk]
        refine Wp.vc 400 [2] rfl ?_
        rw [f57, e111, w9, a1, a4 i k i0.1 i0.2 k0 hk]
        refine ⟨isF w1 rfl, isF ct rfl, fun e => absurd e (by omega), fun _ => ⟨isF w1 rfl, fun e => absurd e (by omega), fun _ => ⟨isF w1 rfl, by omega, by omega, isA w5 (by omega) (by omega), isF w1 rfl, fun e => ⟨by omega, ?_⟩, fun e => ⟨trivial, ?_⟩⟩⟩⟩
        · rw [if_neg (by simpa using e)]
          exact ih
        · rw [if_pos (by simpa using e)]
          exact ⟨rfl, rfl⟩
      · rintro g ⟨k0, rfl⟩
        rw [xfst_end]
        refine Wp.vc 400 [2, 13] rfl ?_
        rw [f57, e111]
        refine ⟨isF w1 rfl, isF ct rfl, fun _ => ⟨trivial, rfl, rfl⟩, fun e => absurd (Int.le_refl _) e⟩
    have k0 := key 0 h (by omega) ⟨Int.le_refl _, rfl⟩
    rw [Int.sub_zero] at k0
    exact k0
theorem XU.f15 {B s n : Int} {h0 h : XH} {S : XSt} (U : XU B s n h0 h S) : xfl h s 15 = s + 22 := U.lay.2.2.2.2.2.2.2.2.2.2.1.1
theorem x_opFits {d : Nat} {h : XH} {B s n : Int} {S : XSt} (R : Rx h B s S) (O : SOK n S) : WpM (d + 16) 30 [.inr (.inr s)] h (XAn B s h (.inl (opFits S).1) (opFits S).2) := by
  refine WpM.of rfl (Wp.vc 400 [] rfl ?_)
  refine XU.anew R O rfl (Nat.zero_le _) (fun h1 U => ?_)
  have ts := U.ts
  cases e : sT S with
  | none =>
    rw [show opFits S = _ from onT_no e]
    refine Wp.vc 400 [] rfl ?_
    rw [U.noT e]
    (repeat (refine And.intro (by first | exact trivial | exact isF (by assumption) rfl | exact isW (by assumption) rfl | exact isA (by assumption) (by omega) (by omega) | exact isB (by assumption) (by omega) (by omega) | exact isR (by assumption) (by decide) (by omega) (by omega) | (refine ⟨by omega, by omega⟩)) ?_))
    refine ⟨fun w => absurd rfl w, fun _ => ?_⟩
    exact U.no (k := 1) (by decide) rfl (fun _ => rfl) rfl
  | some T =>
    rw [show opFits S = _ from onT_yes e]
    obtain ⟨-, -, ne, -⟩ := U.rooms e
    refine Wp.vc 400 [] rfl ?_
    rw [U.f15, U.f9]
    refine ⟨isF ts rfl, fun _ => ⟨isF ts rfl, isF ts rfl, isF ts rfl, ?_⟩, fun w => absurd ne w⟩
    refine U.rowsK e rfl (Nat.zero_le _) (fun h2 U2 C2 A2 => ?_)
    refine Wp.vc 400 [] rfl ?_
    rw [U2.f15, A2.1]
    exact ⟨isF U2.ts rfl, isF C2.2.1.1 rfl, trivial, U2.ret⟩
theorem x_opCould {d : Nat} {h : XH} {B s n i : Int} {S : XSt} (R : Rx h B s S) (O : SOK n S) : WpM (d + 16) 31 [.inr (.inr s), .inl i] h (XAn B s h (.inl (opCould S i).1) (opCould S i).2) := by
  refine WpM.of rfl (Wp.vc 400 [] rfl ?_)
  refine XU.anew R O rfl (Nat.zero_le _) (fun h1 U => ?_)
  have ts := U.ts
  refine Wp.vc 400 [] rfl ?_
  refine XU.hou (d := d + 14) U rfl (Nat.zero_le _) (fun T e i0 => ?_) (fun hp => ?_)
  · rw [show opCould S i = _ from onH_yes e i0]
    refine Wp.vc 400 [] rfl ?_
    rw [U.f15, U.f9]
    refine ⟨fun _ => ⟨isF ts rfl, isF ts rfl, isF ts rfl, ?_⟩, fun w => absurd (show ¬ (1 : Int) = 0 by decide) w⟩
    refine U.rowsK e rfl (Nat.zero_le _) (fun h2 U2 C2 A2 => ?_)
    have hn := (U2.ok e).1.2.2.1
    obtain ⟨w1, w2, w3, w4, w5, w6, w7, w8, w9⟩ := C2.2.1
    refine Wp.vc 400 [] rfl ?_
    rw [U2.f15]
    refine ⟨isF U2.ts rfl, ?_⟩
    have cd : WpM (d + 15) 130 [.inr (.inr (s + 22)), .inl i] h2 (XE (some (.inl (couS (fitL T (sV S)) (tnh T) i))) h2) := by
      refine WpM.of rfl (Wp.vc 400 [] rfl ?_)
      rw [w8, A2.2.2.1 i i0.1 i0.2]
      exact ⟨isF w1 rfl, isA w4 i0.1 (by omega), trivial, rfl, rfl⟩
    refine Wp.callE (j := 0) rfl (Nat.le_of_ble_eq_true rfl) ⟨true, w1⟩ cd ?_
    refine Wp.vc 400 [] rfl ?_
    exact ⟨trivial, U2.ret⟩
  · rw [show opCould S i = _ from onH_no hp]
    refine Wp.vc 400 [] rfl ?_
    first | refine ⟨fun _ => ?_, fun c => absurd (by decide) c⟩ | refine ⟨fun c => absurd c (by decide), fun _ => ?_⟩
    exact U.no (k := 1) (by decide) rfl (fun _ => rfl) rfl
theorem x_opSurely {d : Nat} {h : XH} {B s n i : Int} {S : XSt} (R : Rx h B s S) (O : SOK n S) : WpM (d + 16) 32 [.inr (.inr s), .inl i] h (XAn B s h (.inl (opSurely S i).1) (opSurely S i).2) := by
  refine WpM.of rfl (Wp.vc 400 [] rfl ?_)
  refine XU.anew R O rfl (Nat.zero_le _) (fun h1 U => ?_)
  have ts := U.ts
  refine Wp.vc 400 [] rfl ?_
  refine XU.hou (d := d + 14) U rfl (Nat.zero_le _) (fun T e i0 => ?_) (fun hp => ?_)
  · rw [show opSurely S i = _ from onH_yes e i0]
    refine Wp.vc 400 [] rfl ?_
    rw [U.f15, U.f9]
    refine ⟨fun _ => ⟨isF ts rfl, isF ts rfl, isF ts rfl, ?_⟩, fun w => absurd (show ¬ (1 : Int) = 0 by decide) w⟩
    refine U.rowsK e rfl (Nat.zero_le _) (fun h2 U2 C2 A2 => ?_)
    have hn := (U2.ok e).1.2.2.1
    obtain ⟨w1, w2, w3, w4, w5, w6, w7, w8, w9⟩ := C2.2.1
    refine Wp.vc 400 [] rfl ?_
    rw [U2.f15]
    refine ⟨isF U2.ts rfl, ?_⟩
    refine Wp.callE (j := 0) rfl (Nat.le_of_ble_eq_true rfl) ⟨true, w1⟩ (x_surelyR C2 A2 i0) ?_
    refine Wp.vc 400 [] rfl ?_
    exact ⟨trivial, U2.ret⟩
  · rw [show opSurely S i = _ from onH_no hp]
    refine Wp.vc 400 [] rfl ?_
    first | refine ⟨fun _ => ?_, fun c => absurd (by decide) c⟩ | refine ⟨fun c => absurd c (by decide), fun _ => ?_⟩
    exact U.no (k := 1) (by decide) rfl (fun _ => rfl) rfl
theorem x_opFirstOf {d : Nat} {h : XH} {B s n i : Int} {S : XSt} (R : Rx h B s S) (O : SOK n S) : WpM (d + 16) 33 [.inr (.inr s), .inl i] h (XAn B s h (.inl (opFirstOf S i).1) (opFirstOf S i).2) := by
  refine WpM.of rfl (Wp.vc 400 [] rfl ?_)
  refine XU.anew R O rfl (Nat.zero_le _) (fun h1 U => ?_)
  have ts := U.ts
  refine Wp.vc 400 [] rfl ?_
  refine XU.hou (d := d + 14) U rfl (Nat.zero_le _) (fun T e i0 => ?_) (fun hp => ?_)
  · rw [show opFirstOf S i = _ from onH_yes e i0]
    refine Wp.vc 400 [] rfl ?_
    rw [U.f15, U.f9]
    refine ⟨fun _ => ⟨isF ts rfl, isF ts rfl, isF ts rfl, ?_⟩, fun w => absurd (show ¬ (1 : Int) = 0 by decide) w⟩
    refine U.rowsK e rfl (Nat.zero_le _) (fun h2 U2 C2 A2 => ?_)
    have hn := (U2.ok e).1.2.2.1
    obtain ⟨w1, w2, w3, w4, w5, w6, w7, w8, w9⟩ := C2.2.1
    refine Wp.vc 400 [] rfl ?_
    rw [U2.f15]
    refine ⟨isF U2.ts rfl, ?_⟩
    have cd : WpM (d + 15) 132 [.inr (.inr (s + 22)), .inl i] h2 (XE (some (.inl (fstV (fitL T (sV S)) i))) h2) := by
      unfold fstV
      cases eh : (fitL T (sV S)).head? with
      | none =>
        have e0 : fitL T (sV S) = [] := List.head?_eq_none_iff.mp eh
        refine WpM.of rfl (Wp.vc 400 [] rfl ?_)
        rw [A2.1, show fitL T (sV (sSet S 0 (-1))) = [] from e0]
        exact ⟨isF w1 rfl, fun w => absurd rfl w, fun _ => ⟨trivial, rfl, rfl⟩⟩
      | some r0 =>
        have e0 : fitL T (sV S) ≠ [] := fun w => by rw [w] at eh; cases eh
        have l0 : (fitL T (sV S)).length ≠ 0 := fun w => e0 (List.length_eq_zero_iff.mp w)
        have a1 : xfl h2 (s + 22) 59 = ((fitL T (sV S)).length : Int) := A2.1
        refine WpM.of rfl (Wp.vc 400 [] rfl ?_)
        rw [a1, w7, A2.2.1 r0 eh i i0.1 i0.2]
        exact ⟨isF w1 rfl, fun _ => ⟨isF w1 rfl, isA w3 i0.1 (by omega), trivial, rfl, rfl⟩, fun w => absurd (Decidable.of_not_not w) (by omega)⟩
    refine Wp.callE (j := 0) rfl (Nat.le_of_ble_eq_true rfl) ⟨true, w1⟩ cd ?_
    refine Wp.vc 400 [] rfl ?_
    exact ⟨trivial, U2.ret⟩
  · rw [show opFirstOf S i = _ from onH_no hp]
    refine Wp.vc 400 [] rfl ?_
    first | refine ⟨fun _ => ?_, fun c => absurd (by decide) c⟩ | refine ⟨fun c => absurd c (by decide), fun _ => ?_⟩
    exact U.no (k := 1) (by decide) rfl (fun _ => rfl) rfl
theorem XU.askK {d M pc np : Nat} {ls : XL} {st rest : XS} {B s n : Int} {h0 h : XH} {S : XSt} {T : XTw} {Q : XO → XH → Prop} (U : XU B s n h0 h S) (eT : sT S = some T) (e : xstK M pc 0 st = some (np, some 0, 35, [.inr (.inr s)], rest)) (hw : xwords rest ≤ 8) (k : ∀ h1, XU B s n h0 h1 S → RCtx h1 B (s + 22) (s + 5) (xfl h1 s 3) n T (sV S) → RowsX h1 (s + 22) (tnh T) (fitL T (sV S)) → Wp (d + 17) M np ls (.inl (askV (fitL T (sV S)) (sV S) (tnh T)) :: rest) h1 Q) : Wp (d + 17) M pc ls st h Q := by
  refine Wp.callR e hw ⟨true, U.ts⟩ (Q1 := fun v h' => v = some (.inl (askV (fitL T (sV S)) (sV S) (tnh T))) ∧ XU B s n h0 h' S ∧ RCtx h' B (s + 22) (s + 5) (xfl h' s 3) n T (sV S) ∧ RowsX h' (s + 22) (tnh T) (fitL T (sV S))) ?_ (fun v h1 q => by
    obtain ⟨rfl, q1, q2, q3⟩ := q
    exact k h1 q1 q2 q3)
  have ts := U.ts
  refine WpM.of rfl (Wp.vc 400 [] rfl ?_)
  rw [U.f15, U.f9]
  refine ⟨isF ts rfl, isF ts rfl, isF ts rfl, ?_⟩
  refine U.rowsK eT rfl (Nat.zero_le _) (fun h1 U1 C1 A1 => ?_)
  have ts1 := U1.ts
  have w1 := C1.2.1.1
  have hn := (U1.ok eT).1.2.2.1
  obtain ⟨RT, hv, ne, TX, SN⟩ := U1.rooms eT
  have ct := TX.1.2.2
  have e111 : xfl h1 (xfl h1 s 3) 111 = tnh T := TX.2.2.1.2.2.1
  have f15 := U1.f15
  have f9 := U1.f9
  have tR := RT.1.2.1
  have tR1 := RT.1.2.2.1
  have f40 := RT.1.2.2.2.2.2.1
  have a1 := A1.1
  have lv := fun i i0 => x_leaves (d := d + 15) (i := i) C1 A1 i0
  clear TX SN RT
  obtain ⟨L, hL⟩ : ∃ L, L = fitL T (sV S) := ⟨_, rfl⟩
  rw [← hL] at A1 a1 lv ⊢
  unfold askV
  by_cases c : L.length = 0
  · rw [if_pos c]
    have fin : ∀ ls, Wp (d + 16) 35 88 (some (.inr (.inr s)) :: some (.inl (-2)) :: ls) [] h1 (fun o h' => ∃ v, o = .inl v ∧ v = some (.inl (-2)) ∧ XU B s n h0 h' S ∧ RCtx h' B (s + 22) (s + 5) (xfl h' s 3) n T (sV S) ∧ RowsX h' (s + 22) (tnh T) L) := by
      intro ls
      refine Wp.vc 400 [] rfl ?_
      exact ⟨trivial, _, rfl, rfl, U1, C1, A1⟩
    refine Wp.vc 400 [88, 41] rfl ?_
    rw [e111, f15, a1, c]
    exact ⟨isF ts1 rfl, isF ct rfl, fun _ => fin _, fun _ => ⟨isF ts1 rfl, isF w1 rfl, fun _ => fin _, fun w => absurd (Int.le_refl 0) w⟩⟩
  · rw [if_neg c]
    have key : ∀ (k : Int) (g : XH), k ≤ tnh T → (0 ≤ k ∧ g = h1) → Wp (d + 16) 35 20 [some (.inr (.inr s)), some (.inl (askF L (sV S) (tnh T) k)), some (.inl k)] [] g (fun o h' => ∃ v, o = .inl v ∧ v = some (.inl (askF L (sV S) (tnh T) (tnh T))) ∧ XU B s n h0 h' S ∧ RCtx h' B (s + 22) (s + 5) (xfl h' s 3) n T (sV S) ∧ RowsX h' (s + 22) (tnh T) L) := by
      refine loopUp (G := fun k g => Wp (d + 16) 35 20 [some (.inr (.inr s)), some (.inl (askF L (sV S) (tnh T) k)), some (.inl k)] [] g (fun o h' => ∃ v, o = .inl v ∧ v = some (.inl (askF L (sV S) (tnh T) (tnh T))) ∧ XU B s n h0 h' S ∧ RCtx h' B (s + 22) (s + 5) (xfl h' s 3) n T (sV S) ∧ RowsX h' (s + 22) (tnh T) L)) (tnh T) ?_ ?_
      · rintro k g ⟨k0, rfl⟩ hk ih
        have ih := ih g ⟨by omega, rfl⟩
        rw [askF_succ k0] at ih
        have rg := askF_rg (L := L) (V := sV S) (n := tnh T) k.toNat
        rw [show ((k.toNat : Nat) : Int) = k by omega] at rg
        obtain ⟨b, hb⟩ : ∃ b, b = askF L (sV S) (tnh T) k := ⟨_, rfl⟩
        rw [← hb] at ih rg ⊢
        have nx : ∀ v, ask1 L (sV S) (tnh T) b k = v → Wp (d + 16) 35 82 [some (.inr (.inr s)), some (.inl v), some (.inl k)] [] g (fun o h' => ∃ v, o = .inl v ∧ v = some (.inl (askF L (sV S) (tnh T) (tnh T))) ∧ XU B s n h0 h' S ∧ RCtx h' B (s + 22) (s + 5) (xfl h' s 3) n T (sV S) ∧ RowsX h' (s + 22) (tnh T) L) := by
          intro v hv'
          rw [hv'] at ih
          refine Wp.vc 400 [20] rfl ?_
          exact ⟨by omega, ih⟩
        clear ih
        unfold ask1 at nx
        have vk := hv k k0 hk
        refine Wp.vc 400 [20, 82, 88] rfl ?_
        rw [e111, f15, f9, f40, a1, vk]
        refine ⟨isF ts1 rfl, isF ct rfl, fun w => absurd w (by omega), fun _ => ⟨isF ts1 rfl, isF w1 rfl, fun w => absurd w (by omega), fun _ => ⟨isF ts1 rfl, isF tR rfl, isA tR1 k0 (by omega), fun c1 => nx _ (if_neg c1), fun c1 => ⟨fun c2 => nx _ ?_, fun c2 => ⟨isF ts1 rfl, ?_⟩⟩⟩⟩⟩
        · rw [if_pos (Decidable.of_not_not c1), if_pos (Or.inl c2)]
        · refine Wp.callE (j := 0) rfl (Nat.le_of_ble_eq_true rfl) ⟨true, w1⟩ (lv k ⟨k0, hk⟩) ?_
          refine Wp.vc 400 [20, 82, 88] rfl ?_
          rw [f15]
          refine ⟨isF ts1 rfl, ?_⟩
          refine Wp.callE (j := 0) rfl (Nat.le_of_ble_eq_true rfl) ⟨true, w1⟩ (lv b ⟨by omega, by omega⟩) ?_
          refine Wp.vc 400 [20, 82, 88] rfl ?_
          refine ⟨fun c3 => nx _ ?_, fun c3 => nx _ ?_⟩
          · rw [if_pos (Decidable.of_not_not c1), if_neg (fun w => w.elim c2 (fun w => by omega))]
          · rw [if_pos (Decidable.of_not_not c1), if_pos (Or.inr (by omega))]
      · rintro g ⟨k0, rfl⟩
        refine Wp.vc 400 [20, 31] rfl ?_
        rw [e111]
        exact ⟨isF ts1 rfl, isF ct rfl, fun _ => ⟨trivial, _, rfl, rfl, U1, C1, A1⟩, fun w => absurd (Int.le_refl _) w⟩
    refine Wp.vc 400 [20] rfl ?_
    exact key 0 h1 (by omega) ⟨Int.le_refl _, rfl⟩
theorem x_opAsk {d : Nat} {h : XH} {B s n : Int} {S : XSt} (R : Rx h B s S) (O : SOK n S) : WpM (d + 17) 34 [.inr (.inr s)] h (XAn B s h (.inl (opAsk S).1) (opAsk S).2) := by
  refine WpM.of rfl (Wp.vc 400 [] rfl ?_)
  refine XU.anew R O rfl (Nat.zero_le _) (fun h1 U => ?_)
  have ts := U.ts
  cases e : sT S with
  | none =>
    rw [show opAsk S = _ from onT_no e]
    refine Wp.vc 400 [] rfl ?_
    rw [U.noT e]
    (repeat (refine And.intro (by first | exact trivial | exact isF (by assumption) rfl | exact isW (by assumption) rfl | exact isA (by assumption) (by omega) (by omega) | exact isB (by assumption) (by omega) (by omega) | exact isR (by assumption) (by decide) (by omega) (by omega) | (refine ⟨by omega, by omega⟩)) ?_))
    refine ⟨fun w => absurd rfl w, fun _ => ?_⟩
    exact U.no (k := 1) (by decide) rfl (fun _ => rfl) rfl
  | some T =>
    rw [show opAsk S = _ from onT_yes e]
    obtain ⟨-, -, ne, -⟩ := U.rooms e
    refine Wp.vc 400 [] rfl ?_
    refine ⟨isF ts rfl, fun _ => ?_, fun w => absurd ne w⟩
    refine U.askK e rfl (Nat.zero_le _) (fun h2 U2 C2 A2 => ?_)
    refine Wp.vc 400 [] rfl ?_
    exact ⟨trivial, U2.ret⟩
theorem x_opAskLeaves {d : Nat} {h : XH} {B s n : Int} {S : XSt} (R : Rx h B s S) (O : SOK n S) : WpM (d + 17) 36 [.inr (.inr s)] h (XAn B s h (.inl (opAskLeaves S).1) (opAskLeaves S).2) := by
  refine WpM.of rfl (Wp.vc 400 [] rfl ?_)
  refine XU.anew R O rfl (Nat.zero_le _) (fun h1 U => ?_)
  have ts := U.ts
  cases e : sT S with
  | none =>
    rw [show opAskLeaves S = _ from onT_no e]
    refine Wp.vc 400 [] rfl ?_
    rw [U.noT e]
    (repeat (refine And.intro (by first | exact trivial | exact isF (by assumption) rfl | exact isW (by assumption) rfl | exact isA (by assumption) (by omega) (by omega) | exact isB (by assumption) (by omega) (by omega) | exact isR (by assumption) (by decide) (by omega) (by omega) | (refine ⟨by omega, by omega⟩)) ?_))
    refine ⟨fun w => absurd rfl w, fun _ => ?_⟩
    exact U.no (k := 1) (by decide) rfl (fun _ => rfl) rfl
  | some T =>
    rw [show opAskLeaves S = _ from onT_yes e]
    obtain ⟨-, -, ne, -⟩ := U.rooms e
    have hn := (U.ok e).1.2.2.1
    refine Wp.vc 400 [] rfl ?_
    refine ⟨isF ts rfl, fun _ => ?_, fun w => absurd ne w⟩
    refine U.askK e rfl (Nat.zero_le _) (fun h2 U2 C2 A2 => ?_)
    have rg := askF_rg (L := fitL T (sV S)) (V := sV S) (n := tnh T) (tnh T).toNat
    rw [show (((tnh T).toNat : Nat) : Int) = tnh T by omega] at rg
    have rg : askV (fitL T (sV S)) (sV S) (tnh T) = -2 ∨ (0 ≤ askV (fitL T (sV S)) (sV S) (tnh T) ∧ askV (fitL T (sV S)) (sV S) (tnh T) < tnh T) := by
      unfold askV
      split
      · exact Or.inl rfl
      · exact rg
    show Wp _ _ _ _ (.inl (askV (fitL T (sV S)) (sV S) (tnh T)) :: _) _ _
    by_cases c : askV (fitL T (sV S)) (sV S) (tnh T) = -2
    · rw [if_pos c]
      refine Wp.vc 400 [] rfl ?_
      exact ⟨fun w => absurd c w, fun _ => ⟨trivial, U2.ret⟩⟩
    · rw [if_neg c]
      refine Wp.vc 400 [] rfl ?_
      rw [U2.f15]
      refine ⟨fun _ => ⟨isF U2.ts rfl, ?_⟩, fun w => absurd c w⟩
      refine Wp.callE (j := 0) rfl (Nat.le_of_ble_eq_true rfl) ⟨true, C2.2.1.1⟩ (x_leaves C2 A2 (rg.resolve_left c)) ?_
      refine Wp.vc 400 [] rfl ?_
      exact ⟨trivial, U2.ret⟩
