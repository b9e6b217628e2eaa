/-! WALKS, 22: the model's mayBe; judge -/
set_option maxRecDepth 100000
set_option maxHeartbeats 4000000
theorem xcmp_0 {a b : Int} : xcmp a b = 0 ↔ a = b := by
  unfold xcmp
  constructor
  · intro e
    split at e
    · cases e
    · split at e
      · assumption
      · cases e
  · intro e
    rw [if_neg (by omega), if_pos e]
theorem tsig_mem {T : XTw} {k : Nat} {q : Int × Int × Int} (h : (tsig T)[k]? = some q) : q ∈ tnt T ∧ q.2.1 = 0 := by
  have := List.mem_of_getElem? h
  unfold tsig at this
  rw [List.mem_filter] at this
  exact ⟨this.1, by simpa using this.2⟩
theorem tnoi_mem {T : XTw} {k : Nat} {q : Int × Int × Int} (h : (tnoi T)[k]? = some q) : q ∈ tnt T ∧ q.2.1 = 1 := by
  have := List.mem_of_getElem? h
  unfold tnoi at this
  rw [List.mem_filter] at this
  exact ⟨this.1, by simpa using this.2⟩
theorem m_mayBe {d : Nat} {h : XH} {B t i j : Int} {T : XTw} (TX : TownM h B t T) (TO : TOK T) (j0 : 0 ≤ j ∧ j < tnh T) : WpM d 296 [.inr (.inr t), .inl i, .inl j] h (XE (some (.inl (xb (mayB T i j)))) h) := by
  have hn := TO.2.2.1
  have hs := TO.2.2.2.2.2.2.2.2.2.1
  have hk := TO.2.2.2.2.2.2.2.2.2.2
  have c := TX.1.2.2
  have a0 := TX.2.1.1.1.2.2
  have a6 := TX.2.1.1.2.2.2.2.2.2.2
  have b4 := TX.2.1.2.2.2.2.1.2.2
  have b5 := TX.2.1.2.2.2.2.2.1.2.2
  have b6 := TX.2.1.2.2.2.2.2.2.1.2.2
  have b7 := TX.2.1.2.2.2.2.2.2.2.2.2
  have f6 := TX.2.2.1.2.2.2.2.2.2.1
  have f7 := TX.2.2.1.2.2.2.2.2.2.2
  have v := TX.2.2.2.1 j j0.1 j0.2
  have v0 := v.1
  have v6 := v.2.2.2.2
  have sg := TX.2.2.2.2.2.1
  have no := TX.2.2.2.2.2.2.1
  have hn6 : ∀ q : Int × Int × Int, q ∈ tnt T → (q.2.1 = 0 ∧ q ∈ tsig T) ∨ (q.2.1 = 1 ∧ q ∈ tnoi T) := fun q hq => by
    rcases (hk q hq).2 with w | w
    · exact Or.inl ⟨w, List.mem_filter.mpr ⟨hq, by simpa using w⟩⟩
    · exact Or.inr ⟨w.1, List.mem_filter.mpr ⟨hq, by simpa using w.1⟩⟩
  clear TX TO v hk
  refine WpM.of rfl (Wp.vc 400 [9, 53] rfl ?_)
  refine ⟨fun cij => ?_, fun cij => ⟨⟨by decide, by decide⟩, ?_⟩⟩
  · have key2 : (∀ q ∈ tsig T, q.1 = i → notOf T q j) → ∀ (k : Int) (g : XH), k ≤ ((tnoi T).length : Int) → (0 ≤ k ∧ g = h ∧ ∀ q ∈ (tnoi T).take k.toNat, q.1 = i → notOf T q j) → Wp d 296 53 [some (.inr (.inr t)), some (.inl i), some (.inl j), some (.inl k)] [] g (XE (some (.inl (xb (mayB T i j)))) h) := by
      intro hsg
      refine loopUp (G := fun k g => Wp d 296 53 [some (.inr (.inr t)), some (.inl i), some (.inl j), some (.inl k)] [] g (XE (some (.inl (xb (mayB T i j)))) h)) ((tnoi T).length : Int) ?_ ?_
      · rintro k g ⟨k0, rfl, hall⟩ hk ih
        have hk' : k.toNat < (tnoi T).length := by omega
        have hq := List.getElem?_eq_getElem hk'
        obtain ⟨q, eq⟩ : ∃ q, q = (tnoi T)[k.toNat] := ⟨_, rfl⟩
        rw [← eq] at hq
        obtain ⟨u1, u2⟩ := no k.toNat q hq
        obtain ⟨m1, m2⟩ := tnoi_mem hq
        rw [show ((k.toNat : Nat) : Int) = k by omega] at u1 u2
        have et : (tnoi T).take (k + 1).toNat = (tnoi T).take k.toNat ++ [q] := by
          rw [show (k + 1).toNat = k.toNat + 1 by omega, eq]
          exact List.take_succ_eq_append_getElem hk'
        have nx : (q.1 = i → notOf T q j) → Wp d 296 53 [some (.inr (.inr t)), some (.inl i), some (.inl j), some (.inl (k + 1))] [] g (XE (some (.inl (xb (mayB T i j)))) g) := fun w => ih g ⟨by omega, rfl, fun q' hq' => by
          rw [et] at hq'
          rcases List.mem_append.mp hq' with w' | w'
          · exact hall q' w'
          · have w' := List.mem_singleton.mp w'
            subst w'
            exact w⟩
        have nf : notOf T q j ↔ q.2.2 ≤ thv T 0 j := by unfold notOf; rw [if_neg (by omega)]
        clear et hall hsg hn6 sg no ih eq hq
        refine Wp.vc 400 [53] rfl ?_
        rw [f7, u1, u2, v0]
        refine ⟨isF c rfl, fun w => absurd w (by omega), fun _ => ⟨isF c rfl, isA b5 k0 (by omega), fun c1 => ?_, fun c1 => ?_⟩⟩
        · (repeat (refine And.intro (by first | exact trivial | exact isF (by assumption) rfl | exact isW (by assumption) rfl | exact isA (by assumption) (by omega) (by omega) | exact isB (by assumption) (by omega) (by omega) | exact isR (by assumption) (by decide) (by omega) (by omega) | (refine ⟨by omega, by omega⟩)) ?_))
          exact nx (fun w => absurd w c1)
        · refine ⟨isF c rfl, isA b6 k0 (by omega), isF c rfl, isA a0 j0.1 (by omega), fun c2 => ?_, fun c2 => ?_⟩
          · (repeat (refine And.intro (by first | exact trivial | exact isF (by assumption) rfl | exact isW (by assumption) rfl | exact isA (by assumption) (by omega) (by omega) | exact isB (by assumption) (by omega) (by omega) | exact isR (by assumption) (by decide) (by omega) (by omega) | (refine ⟨by omega, by omega⟩)) ?_))
            exact nx (fun _ => nf.mpr c2)
          · refine ⟨⟨by decide, by decide⟩, ?_⟩
            rw [xb_neg (fun w => c2 (nf.mp (w.2 q m1 (Decidable.of_not_not c1))))]
            exact XE.mk
      · rintro g ⟨k0, rfl, hall⟩
        rw [show (((tnoi T).length : Int)).toNat = (tnoi T).length by omega, List.take_length] at hall
        refine Wp.vc 400 [53] rfl ?_
        rw [f7]
        refine ⟨isF c rfl, fun _ => ⟨⟨by decide, by decide⟩, ?_⟩, fun w => absurd w (by omega)⟩
        have yes : mayB T i j := ⟨cij, fun q hq e => by
          rcases hn6 q hq with w | w
          · exact hsg q w.2 e
          · exact hall q w.2 e⟩
        rw [xb_pos yes]
        exact ⟨rfl, rfl⟩
    have key : ∀ (k : Int) (g : XH), k ≤ ((tsig T).length : Int) → (0 ≤ k ∧ g = h ∧ ∀ q ∈ (tsig T).take k.toNat, q.1 = i → notOf T q j) → Wp d 296 9 [some (.inr (.inr t)), some (.inl i), some (.inl j), some (.inl k)] [] g (XE (some (.inl (xb (mayB T i j)))) h) := by
      refine loopUp (G := fun k g => Wp d 296 9 [some (.inr (.inr t)), some (.inl i), some (.inl j), some (.inl k)] [] g (XE (some (.inl (xb (mayB T i j)))) h)) ((tsig T).length : Int) ?_ ?_
      · rintro k g ⟨k0, rfl, hall⟩ hk ih
        have hk' : k.toNat < (tsig T).length := by omega
        have hq := List.getElem?_eq_getElem hk'
        obtain ⟨q, eq⟩ : ∃ q, q = (tsig T)[k.toNat] := ⟨_, rfl⟩
        rw [← eq] at hq
        obtain ⟨u1, u2⟩ := sg k.toNat q hq
        obtain ⟨m1, m2⟩ := tsig_mem hq
        rw [show ((k.toNat : Nat) : Int) = k by omega] at u1 u2
        have et : (tsig T).take (k + 1).toNat = (tsig T).take k.toNat ++ [q] := by
          rw [show (k + 1).toNat = k.toNat + 1 by omega, eq]
          exact List.take_succ_eq_append_getElem hk'
        have nx : (q.1 = i → notOf T q j) → Wp d 296 9 [some (.inr (.inr t)), some (.inl i), some (.inl j), some (.inl (k + 1))] [] g (XE (some (.inl (xb (mayB T i j)))) g) := fun w => ih g ⟨by omega, rfl, fun q' hq' => by
          rw [et] at hq'
          rcases List.mem_append.mp hq' with w' | w'
          · exact hall q' w'
          · have w' := List.mem_singleton.mp w'
            subst w'
            exact w⟩
        have nf : notOf T q j ↔ q.2.2 = thv T 6 j := by unfold notOf; rw [if_pos m2]; exact eq_comm
        clear et hall hn6 sg no ih eq hq key2
        refine Wp.vc 400 [9, 53] rfl ?_
        rw [f6, u1, u2, v6]
        refine ⟨isF c rfl, fun w => absurd w (by omega), fun _ => ⟨isF c rfl, isA b4 k0 (by omega), fun c1 => ?_, fun c1 => ?_⟩⟩
        · (repeat (refine And.intro (by first | exact trivial | exact isF (by assumption) rfl | exact isW (by assumption) rfl | exact isA (by assumption) (by omega) (by omega) | exact isB (by assumption) (by omega) (by omega) | exact isR (by assumption) (by decide) (by omega) (by omega) | (refine ⟨by omega, by omega⟩)) ?_))
          exact nx (fun w => absurd w c1)
        · refine ⟨isF c rfl, isA b7 k0 (by omega), isF c rfl, isA a6 j0.1 (by omega), fun c2 => ?_, fun c2 => ?_⟩
          · (repeat (refine And.intro (by first | exact trivial | exact isF (by assumption) rfl | exact isW (by assumption) rfl | exact isA (by assumption) (by omega) (by omega) | exact isB (by assumption) (by omega) (by omega) | exact isR (by assumption) (by decide) (by omega) (by omega) | (refine ⟨by omega, by omega⟩)) ?_))
            exact nx (fun _ => nf.mpr (xcmp_0.mp c2))
          · refine ⟨⟨by decide, by decide⟩, ?_⟩
            rw [xb_neg (fun w => c2 (xcmp_0.mpr (nf.mp (w.2 q m1 (Decidable.of_not_not c1)))))]
            exact XE.mk
      · rintro g ⟨k0, rfl, hall⟩
        rw [show (((tsig T).length : Int)).toNat = (tsig T).length by omega, List.take_length] at hall
        refine Wp.vc 400 [9, 53] rfl ?_
        rw [f6]
        exact ⟨isF c rfl, fun _ => key2 hall 0 g (by omega) ⟨by decide, rfl, fun q hq => by simp at hq⟩, fun w => absurd w (by omega)⟩
    exact key 0 h (by omega) ⟨by decide, rfl, fun q hq => by simp at hq⟩
  · rw [xb_neg (fun w => cij w.1)]
    exact ⟨rfl, rfl⟩
def judgeL (T : XTw) (V : Int → Int) : List (Int × Int × Int) → Int → Int
  | [], _ => -2
  | q :: l, k => if V q.1 ≠ -2 ∧ thv T 6 (V q.1) = q.2.2 then judgeL T V l (k + 1) else k
def opJudge (S : XSt) : Int × XSt := onT S fun T => sOk S (judgeL T (sV S) (tsig T) 0)
theorem x_opJudge {d : Nat} {h : XH} {B s n : Int} {S : XSt} (R : Rx h B s S) (O : SOK n S) : WpM (d + 3) 22 [.inr (.inr s)] h (XAn B s h (.inl (opJudge S).1) (opJudge S).2) := by
  refine WpM.of rfl (Wp.vc 400 [] rfl ?_)
  refine XU.anew R O rfl (Nat.zero_le _) (fun h1 U => ?_)
  have ts := U.ts
  cases e : sT S with
  | none =>
    rw [show opJudge S = _ from onT_no e]
    refine Wp.vc 400 [] rfl ?_
    rw [U.noT e]
    (repeat (refine And.intro (by first | exact trivial | exact isF (by assumption) rfl | exact isW (by assumption) rfl | exact isA (by assumption) (by omega) (by omega) | exact isB (by assumption) (by omega) (by omega) | exact isR (by assumption) (by decide) (by omega) (by omega) | (refine ⟨by omega, by omega⟩)) ?_))
    refine ⟨fun w => absurd rfl w, fun _ => ?_⟩
    exact U.no (k := 1) (by decide) rfl (fun _ => rfl) rfl
  | some T =>
    rw [show opJudge S = _ from onT_yes e]
    obtain ⟨RT, hv, ne, TX, SN⟩ := U.rooms e
    obtain ⟨TO, VO⟩ := U.ok e
    have hs := TO.2.2.2.2.2.2.2.2.2.1
    have hk := TO.2.2.2.2.2.2.2.2.2.2
    have hn := TO.2.2.1
    have f9 := U.f9
    have tR := RT.1.2.1
    have tW := RT.1.2.2.1
    have f40 := RT.1.2.2.2.2.2.1
    have nm := x_noticeMany (d := d + 2) TX TO
    have c := TX.1.2.2
    have c5 := TX.2.1.1.2.2
    have c7 := TX.2.1.2.2.1.2.2
    have hN := TX.2.2.2.2.2.1
    have hH := TX.2.2.2.1
    have v1 := VO.1
    clear RT TX SN TO VO
    refine Wp.vc 400 [21] rfl ?_
    refine ⟨isF ts rfl, fun _ => ?_, fun w => absurd ne w⟩
    have key : ∀ (k : Int) (g : XH), k ≤ ((tnt T).length : Int) → (0 ≤ k ∧ g = h1) → ∀ (sg : Int) (l3 l4 : Option XV), 0 ≤ sg → sg ≤ k → Wp (d + 3) 22 21 [some (.inr (.inr s)), some (.inl sg), some (.inl k), l3, l4] [] g (XAn B s h (.inl (judgeL T (sV S) (((tnt T).drop k.toNat).filter fun q => q.2.1 == 0) sg)) (sSet S 0 (-1))) := by
      refine loopUp (G := fun k g => ∀ (sg : Int) (l3 l4 : Option XV), 0 ≤ sg → sg ≤ k → Wp (d + 3) 22 21 [some (.inr (.inr s)), some (.inl sg), some (.inl k), l3, l4] [] g (XAn B s h (.inl (judgeL T (sV S) (((tnt T).drop k.toNat).filter fun q => q.2.1 == 0) sg)) (sSet S 0 (-1)))) ((tnt T).length : Int) ?_ ?_
      · rintro k g ⟨k0, rfl⟩ hkn ih sg l3 l4 s0 s1
        have hk' : k.toNat < (tnt T).length := by omega
        have hq := List.getElem?_eq_getElem hk'
        obtain ⟨q, eq⟩ : ∃ q, q = (tnt T)[k.toNat] := ⟨_, rfl⟩
        have ed : (tnt T).drop k.toNat = q :: (tnt T).drop (k + 1).toNat := by
          rw [show (k + 1).toNat = k.toNat + 1 by omega, eq]
          exact List.drop_eq_getElem_cons hk'
        rw [← eq] at hq
        have N := hN k.toNat q hq
        rw [show ((k.toNat : Nat) : Int) = k by omega] at N
        obtain ⟨q1, q2⟩ := hk q (List.mem_of_getElem? hq)
        have ih := ih g ⟨by omega, rfl⟩
        have len := hs.2.2.2.2
        rw [ed, List.filter_cons]
        clear ed eq hq hN
        refine Wp.vc 400 [21, 95] rfl ?_
        refine ⟨isF ts rfl, ?_⟩
        refine Wp.callE (j := 0) rfl (Nat.le_of_ble_eq_true rfl) ⟨true, c⟩ nm ?_
        refine Wp.vc 400 [21, 95] rfl ?_
        refine ⟨fun w => absurd w (by omega), fun _ => ⟨isF ts rfl, isF c rfl, isR c7 (by decide) k0 (by omega), ?_⟩⟩
        rcases N.2 with ⟨n0, cc, -⟩ | ⟨n1, cc, -⟩
        · have ta := cc.2.2
          rw [show (q.2.1 == 0) = true by simp [n0], if_pos rfl, ta]
          refine ⟨Or.inr ⟨true, 13, rfl, rfl⟩, fun _ => ?_, fun w => absurd (show ¬ (1 : Int) = 0 by decide) w⟩
          rw [f9, f40, N.1, hv q.1 q1.1 q1.2]
          refine ⟨isF ts rfl, isF tR rfl, isF ta rfl, isA tW q1.1 (by omega), fun c1 => ⟨trivial, ?_⟩, fun c1 => ?_⟩
          · rw [show judgeL T (sV S) (q :: ((tnt T).drop (k + 1).toNat).filter fun q => q.2.1 == 0) sg = sg from if_neg (fun w => w.1 c1)]
            exact U.ret
          · have r1 : 0 ≤ sV S q.1 ∧ sV S q.1 < tnh T := by
              rcases v1 q.1 q1.1 q1.2 with w | w
              · exact absurd w c1
              · exact ⟨w.1, w.2.1⟩
            refine ⟨isF ts rfl, isF c rfl, isR c5 (by decide) r1.1 (Int.lt_of_lt_of_le r1.2 hn.2), ?_⟩
            have en : notOf T q (sV S q.1) ↔ thv T 6 (sV S q.1) = q.2.2 := by unfold notOf; rw [if_pos n0]
            refine Wp.isOf N (hH _ r1.1 r1.2) rfl rfl (Nat.le_of_ble_eq_true rfl) (fun hno => ?_) (fun hno => ?_)
            · rw [show judgeL T (sV S) (q :: ((tnt T).drop (k + 1).toNat).filter fun q => q.2.1 == 0) sg = judgeL T (sV S) (((tnt T).drop (k + 1).toNat).filter fun q => q.2.1 == 0) (sg + 1) from if_pos ⟨c1, en.mp hno⟩]
              refine Wp.vc 400 [21] rfl ?_
              refine ⟨fun _ => ⟨⟨by omega, by omega⟩, ⟨by omega, by omega⟩, ih (sg + 1) _ _ (by omega) (by omega)⟩, fun w => absurd (show ¬ (1 : Int) = 0 by decide) w⟩
            · rw [show judgeL T (sV S) (q :: ((tnt T).drop (k + 1).toNat).filter fun q => q.2.1 == 0) sg = sg from if_neg (fun w => hno (en.mpr w.2))]
              refine Wp.vc 400 [21] rfl ?_
              exact ⟨fun w => absurd rfl w, fun _ => ⟨trivial, U.ret⟩⟩
        · have ta := cc.2.2
          rw [show (q.2.1 == 0) = false by simp [n1], if_neg (by decide), ta]
          refine ⟨Or.inr ⟨true, 14, rfl, rfl⟩, fun w => absurd rfl w, fun _ => ?_⟩
          refine Wp.vc 400 [21] rfl ?_
          exact ⟨⟨by omega, by omega⟩, ih sg _ _ s0 (by omega)⟩
      · rintro g ⟨k0, rfl⟩ sg l3 l4 s0 s1
        rw [show (((tnt T).length : Int)).toNat = (tnt T).length by omega, List.drop_length]
        refine Wp.vc 400 [21, 95] rfl ?_
        refine ⟨isF ts rfl, ?_⟩
        refine Wp.callE (j := 0) rfl (Nat.le_of_ble_eq_true rfl) ⟨true, c⟩ nm ?_
        refine Wp.vc 400 [21, 95] rfl ?_
        exact ⟨fun _ => ⟨trivial, U.ret⟩, fun w => absurd (Int.le_refl _) w⟩
    exact key 0 h1 (by omega) ⟨by decide, rfl⟩ 0 none none (by decide) (by decide)
theorem m_opJudge {d : Nat} {h : XH} {B m n : Int} {S : XSt} (R : Rm h B m S) (O : SOK n S) : WpM (d + 1) 191 [.inr (.inr m)] h (MAn B m h (.inl (opJudge S).1) (opJudge S).2) := by
  refine WpM.of rfl (MU.start R O rfl (fun g U => ?_))
  have tm := U.tm
  cases e : sT S with
  | none =>
    rw [show opJudge S = _ from onT_no e]
    refine Wp.vc 400 [] rfl ?_
    rw [U.noT e]
    (repeat (refine And.intro (by first | exact trivial | exact isF (by assumption) rfl | exact isW (by assumption) rfl | exact isA (by assumption) (by omega) (by omega) | exact isB (by assumption) (by omega) (by omega) | exact isR (by assumption) (by decide) (by omega) (by omega) | (refine ⟨by omega, by omega⟩)) ?_))
    refine ⟨fun w => absurd rfl w, fun _ => ?_⟩
    exact U.ref (k := 1) rfl (fun _ => rfl) rfl
  | some T =>
    rw [show opJudge S = _ from onT_yes e]
    obtain ⟨ne, TX, hv, -⟩ := U.hasT e
    obtain ⟨TO, VO⟩ := U.ok e
    have hs := TO.2.2.2.2.2.2.2.2.2.1
    have hk := TO.2.2.2.2.2.2.2.2.2.2
    have hn := TO.2.2.1
    obtain ⟨t2, f2⟩ := U.v2
    have c := TX.1.2.2
    have a6 := TX.2.1.1.2.2.2.2.2.2.2
    have b4 := TX.2.1.2.2.2.2.1.2.2
    have b7 := TX.2.1.2.2.2.2.2.2.2.2.2
    have f6 := TX.2.2.1.2.2.2.2.2.2.1
    have hh := TX.2.2.2.1
    have sg := TX.2.2.2.2.2.1
    have v1 := VO.1
    clear TX TO VO
    refine Wp.vc 400 [20] rfl ?_
    refine ⟨isF tm rfl, fun _ => ?_, fun w => absurd ne w⟩
    have key : ∀ (k : Int) (g' : XH), k ≤ ((tsig T).length : Int) → (0 ≤ k ∧ g' = g) → ∀ l, Wp (d + 1) 191 20 [some (.inr (.inr m)), some (.inl k), l] [] g' (MAn B m h (.inl (judgeL T (sV S) ((tsig T).drop k.toNat) k)) (sSet S 0 (-1))) := by
      refine loopUp (G := fun k g' => ∀ l, Wp (d + 1) 191 20 [some (.inr (.inr m)), some (.inl k), l] [] g' (MAn B m h (.inl (judgeL T (sV S) ((tsig T).drop k.toNat) k)) (sSet S 0 (-1)))) ((tsig T).length : Int) ?_ ?_
      · rintro k g ⟨k0, rfl⟩ hkn ih l
        have hk' : k.toNat < (tsig T).length := by omega
        have hq := List.getElem?_eq_getElem hk'
        obtain ⟨q, eq⟩ : ∃ q, q = (tsig T)[k.toNat] := ⟨_, rfl⟩
        have ed : (tsig T).drop k.toNat = q :: (tsig T).drop (k + 1).toNat := by
          rw [show (k + 1).toNat = k.toNat + 1 by omega, eq]
          exact List.drop_eq_getElem_cons hk'
        rw [← eq] at hq
        obtain ⟨u1, u2⟩ := sg k.toNat q hq
        rw [show ((k.toNat : Nat) : Int) = k by omega] at u1 u2
        obtain ⟨q1, -⟩ := hk q (tsig_mem hq).1
        have ih := ih g ⟨by omega, rfl⟩
        have hvq := hv q.1 q1.1 (by omega)
        have vq := v1 q.1 q1.1 q1.2
        rw [ed]
        clear ed eq hq hv v1 sg
        refine Wp.vc 400 [20] rfl ?_
        rw [f2, f6, u1, u2, Int.zero_add, hvq]
        refine ⟨isF tm rfl, isF c rfl, fun w => absurd w (by omega), fun _ => ⟨isF tm rfl, isF tm rfl, isF c rfl, isA b4 k0 (by omega), ⟨by omega, by omega⟩, isA t2 q1.1 (by omega), fun c1 => ?_, fun c1 => ?_⟩⟩
        · rw [show judgeL T (sV S) (q :: (tsig T).drop (k + 1).toNat) k = k from if_neg (fun w => w.1 c1)]
          exact U.good rfl (fun _ => rfl) rfl
        · have r1 : 0 ≤ sV S q.1 ∧ sV S q.1 < tnh T := by
            rcases vq with w | w
            · exact absurd w c1
            · exact ⟨w.1, w.2.1⟩
          have v6 := (hh _ r1.1 r1.2).2.2.2.2
          rw [v6]
          refine ⟨isF tm rfl, isF c rfl, isA a6 r1.1 (by omega), isF tm rfl, isF c rfl, isA b7 k0 (by omega), fun c2 => ?_, fun c2 => ?_⟩
          · rw [show judgeL T (sV S) (q :: (tsig T).drop (k + 1).toNat) k = judgeL T (sV S) ((tsig T).drop (k + 1).toNat) (k + 1) from if_pos ⟨c1, xcmp_0.mp c2⟩]
            exact ⟨⟨by omega, by omega⟩, ih _⟩
          · rw [show judgeL T (sV S) (q :: (tsig T).drop (k + 1).toNat) k = k from if_neg (fun w => c2 (xcmp_0.mpr w.2))]
            exact U.good rfl (fun _ => rfl) rfl
      · rintro g ⟨k0, rfl⟩ l
        rw [show (((tsig T).length : Int)).toNat = (tsig T).length by omega, List.drop_length]
        refine Wp.vc 400 [20] rfl ?_
        rw [f6]
        refine ⟨isF tm rfl, isF c rfl, fun _ => ?_, fun w => absurd (by omega) w⟩
        exact U.good (k := -2) rfl (fun _ => rfl) rfl
    exact key 0 g (by omega) ⟨by decide, rfl⟩ none
