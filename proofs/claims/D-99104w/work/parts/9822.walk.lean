/-! WALKS, 61: stands: WrongRoom -/
set_option maxRecDepth 100000
set_option maxHeartbeats 4000000
theorem XU.minsF {d M pc np : Nat} {ls : XL} {st rest : XS} {B s n i j m g : Int} {b : Bool} {h0 h : XH} {S : XSt} {T : XTw} {Q : XO → XH → Prop} (U : XU B s n h0 h S) (eT : sT S = some T) (i0 : 0 ≤ i ∧ i < tnh T) (m0 : 0 ≤ m ∧ m ≤ 100000) (hg : g = if b = true then s + 21 else s + 20) (e : xstK M pc 0 st = some (np, some 0, 25, [.inr (.inr s), .inr (.inr g), .inl i, .inl j, .inl m], rest)) (hw : xwords rest ≤ 8) (k : ∀ h1, XU B s n h0 h1 S → (∀ q, xar h1 (s + 49) q = xar h (s + 49) q) → Wp (d + 16) M np ls (.inl (wmin T (sV S) b i j m) :: rest) h1 Q) : Wp (d + 16) M pc ls st h Q := by
  refine Wp.callR e hw ⟨true, U.ts⟩ (Q1 := fun v h' => v = some (.inl (wmin T (sV S) b i j m)) ∧ XU B s n h0 h' S ∧ ∀ q, xar h' (s + 49) q = xar h (s + 49) q) ?_ (fun v h1 q => by
    obtain ⟨rfl, q1, q2⟩ := q
    exact k h1 q1 q2)
  obtain ⟨RT, hv, ne, TX, SN⟩ := U.rooms eT
  obtain ⟨TO, VO⟩ := U.ok eT
  have L := U.lay
  have bnd := U.bnd
  have ts := U.ts
  have f12 := L.2.2.2.2.2.2.2.1
  have f9 := U.f9
  have tg : g < xsz h ∧ xty h g = some (true, if b = true then 6 else 5, none) := by
    cases b
    · rw [hg]; exact ⟨by show s + 20 < _; omega, L.2.2.2.2.2.2.2.2.1.2⟩
    · rw [hg]; exact ⟨by show s + 21 < _; omega, L.2.2.2.2.2.2.2.2.2.1.2⟩
  have sk := x_wseek (d := d) (j := j) (m := m) (B := B) (w := s + 17) (r := s + 5) ⟨by omega, by omega, by omega⟩ f12.2 tg U.r5 SN TX TO VO i0 m0
  refine WpM.of rfl (Wp.vc 400 [] rfl ?_)
  rw [f12.1, f9]
  refine ⟨isF ts rfl, isF ts rfl, isF ts rfl, ?_⟩
  refine Wp.callR (j := 0) rfl (Nat.le_of_ble_eq_true rfl) ⟨true, f12.2.1⟩ sk (fun v h1 q => ?_)
  obtain ⟨rfl, q1, q2, q3, q4⟩ := q
  have U1 : XU B s n h0 h1 S := U.scr (q1.mono (fun z f _ w => Or.inr (Or.inr ⟨by omega, by omega, w.2⟩)) (fun z _ w => Or.inr (Or.inl ⟨by omega, by omega, by omega⟩))) q2 q3
  have k49 : ∀ q, xar h1 (s + 49) q = xar h (s + 49) q := fun q => q1.2.2.2.2 (s + 49) q (by omega) (by omega)
  have rg := fun a => wbest_rg (a := a) (b := b) (j := j) TO i0 m0.1 (V := sV S)
  unfold wmin
  cases ew : wbest T (sV S) b i j m with
  | none =>
    rw [ew] at q4
    refine Wp.vc 400 [] rfl ?_
    exact ⟨fun w => absurd rfl w, fun _ => ⟨trivial, _, rfl, rfl, U1, k49⟩⟩
  | some a =>
    rw [ew] at q4
    have := rg a ew
    show Wp _ _ _ _ (.inl a.1 :: _) _ _
    refine Wp.vc 400 [] rfl ?_
    refine ⟨fun _ => ⟨⟨by omega, by omega⟩, trivial, _, rfl, rfl, U1, k49⟩, fun w => absurd (Decidable.of_not_not w) (by omega)⟩
theorem stnF_rg {T : XTw} {M : Int} (hn : 2 ≤ tnh T) : ∀ k : Nat, (k : Int) ≤ 2 ^ (tnh T).toNat → 0 ≤ stnF T M k ∧ stnF T M k < 2 ^ (tnh T).toNat
  | 0, _ => by
    have p0 : (0 : Int) < 2 ^ (tnh T).toNat := Int.pow_pos (by decide)
    show 0 ≤ (2 : Int) ^ (tnh T).toNat - 1 ∧ (2 : Int) ^ (tnh T).toNat - 1 < _
    omega
  | k + 1, h => by
    rw [show ((k + 1 : Nat) : Int) = (k : Int) + 1 by omega] at h ⊢
    rw [stnF_succ (by omega)]
    have := stnF_rg (M := M) hn k (by omega)
    unfold stn1
    split <;> omega
def RchR (h : XH) (r : Int) (T : XTw) (M i : Int) : Prop := (0 ≤ xar h r i ∧ xar h r i < 2 ^ (tnh T).toNat) ∧ ∀ j : Int, 0 ≤ j → j < tnh T → (xbit (xar h r i) j ↔ wreach T i j M)
theorem xbit_pow {k j : Int} (k0 : 0 ≤ k ∧ k < 7) (j0 : 0 ≤ j ∧ j < 7) : xbit (1 * 2 ^ k.toNat) j ↔ j = k := by
  have z : ¬ xbit 0 k := xbit_0
  rw [Int.one_mul, show (2 : Int) ^ k.toNat = 0 + 2 ^ k.toNat from (Int.zero_add _).symm, bit_add ⟨Int.le_refl _, by decide⟩ k0 j0 z]
  exact ⟨fun w => w.elim id (fun q => absurd q xbit_0), Or.inl⟩
theorem x_opStands {d : Nat} {h : XH} {B s n M : Int} {S : XSt} (R : Rx h B s S) (O : SOK n S) : WpM (d + 16) 47 [.inr (.inr s), .inl M] h (XAn B s h (.inl (opStands S M).1) (opStands S M).2) := by
  refine WpM.of rfl (Wp.vc 400 [] rfl ?_)
  refine XU.anew R O rfl (Nat.zero_le _) (fun h1 U => ?_)
  have ts := U.ts
  cases e : sT S with
  | none =>
    rw [show opStands S M = _ from onT_no e]
    refine Wp.vc 400 [] rfl ?_
    rw [U.noT e]
    refine ⟨isF ts rfl, fun w => absurd rfl w, fun _ => ?_⟩
    exact U.no (k := 1) (by decide) rfl (fun _ => rfl) rfl
  | some T =>
    rw [show opStands S M = _ from onT_yes e]
    obtain ⟨-, -, ne, -⟩ := U.rooms e
    have TO := (U.ok e).1
    have hn := TO.2.2.1
    have p7 : (2 : Int) ^ (tnh T).toNat ≤ 128 := two_pow7 ⟨by omega, hn.2⟩
    have p0 : (0 : Int) < 2 ^ (tnh T).toNat := Int.pow_pos (by decide)
    have fc : ∀ h2, XU B s n h h2 (sSet S 0 (-1)) → xfl h2 (xfl h2 s 3) 111 = tnh T ∧ xty h2 (xfl h2 s 3) = some (true, 10, none) := fun h2 U2 => ⟨(U2.rooms e).2.2.2.1.2.2.1.2.2.1, (U2.rooms e).2.2.2.1.1.2.2⟩
    have f19 : ∀ h2, XU B s n h h2 (sSet S 0 (-1)) → xfl h2 s 19 = s + 49 ∧ xty h2 (s + 49) = some (true, 0, some 7) := fun h2 U2 => by
      obtain ⟨-, -, -, -, -, -, -, -, -, -, -, -, -, -, ⟨a, b⟩, -⟩ := U2.lay
      exact ⟨b, a⟩
    refine Wp.vc 400 [] rfl ?_
    refine ⟨isF ts rfl, fun _ => ?_, fun w => absurd ne w⟩
    refine Wp.callE (j := 0) rfl (Nat.le_of_ble_eq_true rfl) trivial (x_in M 0 999) ?_
    by_cases M0 : 0 ≤ M ∧ M ≤ 999
    · rw [if_pos M0, if_pos M0]
      -- the search
      have last : ∀ h2, XU B s n h h2 (sSet S 0 (-1)) → RchX h2 (s + 49) T M → ∀ (k : Int) (h3 : XH), k ≤ 2 ^ (tnh T).toNat → (0 ≤ k ∧ h3 = h2) → Wp (d + 16) 47 128 [some (.inr (.inr s)), some (.inl M), some (.inl (stnF T M k)), some (.inl k)] [] h3 (XAn B s h (.inl (sOk S (stnV T M)).1) (sOk S (stnV T M)).2) := by
        intro h2 U2 A
        obtain ⟨f111, tt⟩ := fc h2 U2
        obtain ⟨f9, t9⟩ := f19 h2 U2
        refine loopUp (G := fun k h3 => Wp (d + 16) 47 128 [some (.inr (.inr s)), some (.inl M), some (.inl (stnF T M k)), some (.inl k)] [] h3 (XAn B s h (.inl (sOk S (stnV T M)).1) (sOk S (stnV T M)).2)) (2 ^ (tnh T).toNat) ?_ ?_
        · rintro k h3 ⟨k0, rfl⟩ hk ih
          have ih := ih h3 ⟨by omega, rfl⟩
          have rg := stnF_rg (T := T) (M := M) hn.1 k.toNat
          rw [Int.toNat_of_nonneg (by omega)] at rg
          have rg := rg (by omega)
          rw [stnF_succ (by omega)] at ih
          generalize stnF T M k = a at ih rg ⊢
          have at162 : ∀ v : Int, v = stn1 T M a k → Wp (d + 16) 47 162 [some (.inr (.inr s)), some (.inl M), some (.inl v), some (.inl k)] [] h3 (XAn B s h (.inl (sOk S (stnV T M)).1) (sOk S (stnV T M)).2) := by
            intro v ev
            subst ev
            refine Wp.vc 400 [128] rfl ?_
            exact ⟨⟨by omega, by omega⟩, ih⟩
          have sd := x_doStand (d := d + 14) (u := k) hn U2.ts rfl tt f111 t9 f9 A ⟨by omega, by omega⟩
          refine Wp.vc 400 [128, 162, 168] rfl ?_
          rw [f111, Int.one_mul]
          refine ⟨isF U2.ts rfl, isF tt rfl, ⟨by omega, by omega, by omega, by omega⟩, fun w => absurd w (by omega), fun _ => ?_⟩
          refine Wp.callE (j := 0) rfl (Nat.le_of_ble_eq_true rfl) trivial (x_ones k ⟨by omega, by omega⟩) ?_
          refine Wp.vc 400 [128, 162, 168] rfl ?_
          refine Wp.callE (j := 0) rfl (Nat.le_of_ble_eq_true rfl) trivial (x_ones a ⟨by omega, by omega⟩) ?_
          refine Wp.vc 400 [128, 162, 168] rfl ?_
          refine ⟨fun c => at162 a (if_neg (fun q => absurd q.1 (by omega))).symm, fun c => ?_⟩
          refine Wp.callE (j := 0) rfl (Nat.le_of_ble_eq_true rfl) ⟨true, U2.ts⟩ sd ?_
          by_cases q : stp T M k
          · rw [xb_pos q]
            refine Wp.vc 400 [128, 162, 168] rfl ?_
            exact ⟨fun w => absurd w (by decide), fun _ => at162 k (if_pos ⟨by omega, q⟩).symm⟩
          · rw [xb_neg q]
            refine Wp.vc 400 [128, 162, 168] rfl ?_
            exact ⟨fun _ => at162 a (if_neg (fun w => q w.2)).symm, fun w => absurd rfl w⟩
        · rintro h3 ⟨k0, rfl⟩
          refine Wp.vc 400 [141] rfl ?_
          rw [f111, Int.one_mul]
          exact ⟨isF U2.ts rfl, isF tt rfl, ⟨by omega, by omega, by omega, by omega⟩, fun _ => ⟨trivial, U2.ret⟩, fun w => absurd (Int.le_refl _) w⟩
      -- the reached
      have inner : ∀ i : Int, (0 ≤ i ∧ i < tnh T) → (∀ h2 l3, XU B s n h h2 (sSet S 0 (-1)) → (∀ i' : Int, 0 ≤ i' → i' < i + 1 → RchR h2 (s + 49) T M i') → Wp (d + 16) 47 36 [some (.inr (.inr s)), some (.inl M), some (.inl (i + 1)), l3] [] h2 (XAn B s h (.inl (sOk S (stnV T M)).1) (sOk S (stnV T M)).2)) → ∀ (k : Int) (h2 : XH), k ≤ tnh T → (0 ≤ k ∧ XU B s n h h2 (sSet S 0 (-1)) ∧ (∀ i' : Int, 0 ≤ i' → i' < i → RchR h2 (s + 49) T M i') ∧ (0 ≤ xar h2 (s + 49) i ∧ xar h2 (s + 49) i < 2 ^ (tnh T).toNat) ∧ ∀ j : Int, 0 ≤ j → j < tnh T → (xbit (xar h2 (s + 49) i) j ↔ j < k ∧ wreach T i j M)) → Wp (d + 16) 47 56 [some (.inr (.inr s)), some (.inl M), some (.inl i), some (.inl k)] [] h2 (XAn B s h (.inl (sOk S (stnV T M)).1) (sOk S (stnV T M)).2) := by
        intro i i0 done
        refine loopUp (G := fun k h2 => Wp (d + 16) 47 56 [some (.inr (.inr s)), some (.inl M), some (.inl i), some (.inl k)] [] h2 (XAn B s h (.inl (sOk S (stnV T M)).1) (sOk S (stnV T M)).2)) (tnh T) ?_ ?_
        · rintro k h2 ⟨k0, U2, A2, rg2, b2⟩ hk ih
          obtain ⟨f111, tt⟩ := fc h2 U2
          obtain ⟨f9, t9⟩ := f19 h2 U2
          have f13 : xfl h2 s 13 = s + 20 := U2.lay.2.2.2.2.2.2.2.2.1.1
          refine Wp.vc 400 [56, 100] rfl ?_
          rw [f111, f9, f13]
          refine ⟨isF U2.ts rfl, isF tt rfl, fun w => absurd w (by omega), fun _ => ⟨isF U2.ts rfl, isA t9 i0.1 (by omega), isF U2.ts rfl, ?_⟩⟩
          refine U2.minsF e i0 (j := k) (b := false) ⟨by decide, by decide⟩ rfl rfl (Nat.le_of_ble_eq_true rfl) (fun h3 U3 s49 => ?_)
          obtain ⟨f9, t9⟩ := f19 h3 U3
          have wr := wmin_reach (V := sV S) (i := i) (j := k) (M := M) TO i0
          have at100 : ∀ v : Int, (0 ≤ v ∧ v < 2 ^ (tnh T).toNat) → (∀ j : Int, 0 ≤ j → j < tnh T → (xbit v j ↔ j = k ∧ wreach T i k M)) → Wp (d + 16) 47 100 [some (.inr (.inr s)), some (.inl M), some (.inl i), some (.inl k)] [.inl v, .inl (xar h2 (s + 49) i), .inl i, .inr (.inr (s + 49))] h3 (XAn B s h (.inl (sOk S (stnV T M)).1) (sOk S (stnV T M)).2) := by
            intro v v0 vb
            have U4 : XU B s n h (xputa h3 (s + 49) i (xor_ (xar h2 (s + 49) i) v)) (sSet S 0 (-1)) := U3.scr ((XFr.refl h3).puta (Or.inr (Or.inr (Or.inr rfl)))) rfl rfl
            have nx := ih _ ⟨by omega, U4, fun i' h0 h1 => ?_, ?_, fun j j0 j1 => ?_⟩
            · refine Wp.vc 400 [56] rfl ?_
              exact ⟨isB t9 i0.1 (by omega), ⟨by omega, by omega⟩, nx⟩
            · have a := A2 i' h0 h1
              unfold RchR at a ⊢
              rw [xar_puta, if_neg (by omega), s49]
              exact a
            · rw [xar_puta, if_pos ⟨rfl, rfl⟩]
              exact xor_lt (by omega) rg2 v0
            · rw [xar_puta, if_pos ⟨rfl, rfl⟩, (xor_bit ⟨rg2.1, by omega⟩ ⟨v0.1, by omega⟩).2 j j0, b2 j j0 j1, vb j j0 j1]
              constructor
              · rintro (w | w)
                · exact ⟨by omega, w.2⟩
                · exact ⟨by omega, w.1 ▸ w.2⟩
              · rintro ⟨w1, w2⟩
                by_cases q : j = k
                · exact Or.inr ⟨q, q ▸ w2⟩
                · exact Or.inl ⟨by omega, w2⟩
          show Wp _ _ _ _ (.inl (wmin T (sV S) false i k 0) :: _) _ _
          refine Wp.vc 400 [56, 100] rfl ?_
          refine Wp.callE (j := 0) rfl (Nat.le_of_ble_eq_true rfl) trivial (x_in _ 0 M) ?_
          by_cases c : 0 ≤ wmin T (sV S) false i k 0 ∧ wmin T (sV S) false i k 0 ≤ M
          · rw [if_pos c]
            have pk : (1 : Int) * 2 ^ k.toNat < 2 ^ (tnh T).toNat := by
              have p : (2 : Nat) ^ k.toNat < 2 ^ (tnh T).toNat := Nat.pow_lt_pow_right (by decide) (by omega)
              have e3 : (2 : Int) ^ (tnh T).toNat = ((2 ^ (tnh T).toNat : Nat) : Int) := by rw [Int.natCast_pow]; rfl
              have e4 : (2 : Int) ^ k.toNat = ((2 ^ k.toNat : Nat) : Int) := by rw [Int.natCast_pow]; rfl
              omega
            have pk0 : (0 : Int) ≤ 1 * 2 ^ k.toNat := by
              have : (0 : Int) < 2 ^ k.toNat := Int.pow_pos (by decide)
              omega
            refine Wp.vc 400 [56, 100] rfl ?_
            refine ⟨fun w => absurd w (by decide), fun _ => ⟨⟨by omega, by omega, by omega, by omega⟩, at100 _ ⟨pk0, pk⟩ (fun j j0 j1 => ?_)⟩⟩
            rw [xbit_pow ⟨k0, by omega⟩ ⟨j0, by omega⟩]
            exact ⟨fun w => ⟨w, wr.mp c⟩, fun w => w.1⟩
          · rw [if_neg c]
            refine Wp.vc 400 [56, 100] rfl ?_
            exact ⟨fun _ => at100 0 ⟨Int.le_refl _, p0⟩ (fun j j0 j1 => ⟨fun w => absurd w xbit_0, fun w => absurd (wr.mpr w.2) c⟩), fun w => absurd rfl w⟩
        · rintro h2 ⟨k0, U2, A2, rg2, b2⟩
          obtain ⟨f111, tt⟩ := fc h2 U2
          have nx := done h2 (some (.inl (tnh T))) U2 (fun i' h0 h1 => by
            by_cases q : i' = i
            · rw [q]
              exact ⟨rg2, fun j j0 j1 => (b2 j j0 j1).trans ⟨fun w => w.2, fun w => ⟨j1, w⟩⟩⟩
            · exact A2 i' h0 (by omega))
          refine Wp.vc 400 [36, 67] rfl ?_
          rw [f111]
          exact ⟨isF U2.ts rfl, isF tt rfl, fun _ => ⟨⟨by omega, by omega⟩, nx⟩, fun w => absurd (Int.le_refl _) w⟩
      have outer : ∀ (i : Int) (h2 : XH), i ≤ tnh T → (0 ≤ i ∧ XU B s n h h2 (sSet S 0 (-1)) ∧ (∀ i' : Int, 0 ≤ i' → i' < i → RchR h2 (s + 49) T M i')) → ∀ l3, Wp (d + 16) 47 36 [some (.inr (.inr s)), some (.inl M), some (.inl i), l3] [] h2 (XAn B s h (.inl (sOk S (stnV T M)).1) (sOk S (stnV T M)).2) := by
        refine loopUp (G := fun i h2 => ∀ l3, Wp (d + 16) 47 36 [some (.inr (.inr s)), some (.inl M), some (.inl i), l3] [] h2 (XAn B s h (.inl (sOk S (stnV T M)).1) (sOk S (stnV T M)).2)) (tnh T) ?_ ?_
        · rintro i h2 ⟨i0, U2, A2⟩ hi ih l3
          obtain ⟨f111, tt⟩ := fc h2 U2
          obtain ⟨f9, t9⟩ := f19 h2 U2
          have U4 : XU B s n h (xputa h2 (s + 49) i 0) (sSet S 0 (-1)) := U2.scr ((XFr.refl h2).puta (Or.inr (Or.inr (Or.inr rfl)))) rfl rfl
          have nx := inner i ⟨i0, hi⟩ (fun h2 l3 U3 A3 => ih h2 ⟨by omega, U3, A3⟩ l3) 0 _ (by omega) ⟨Int.le_refl _, U4, fun i' h0 h1 => ?_, ?_, fun j j0 j1 => ?_⟩
          · refine Wp.vc 400 [56, 114] rfl ?_
            rw [f111, f9]
            exact ⟨isF U2.ts rfl, isF tt rfl, fun w => absurd w (by omega), fun _ => ⟨isF U2.ts rfl, isB t9 i0 (by omega), nx⟩⟩
          · have a := A2 i' h0 h1
            unfold RchR at a ⊢
            rw [xar_puta, if_neg (by omega)]
            exact a
          · rw [xar_puta, if_pos ⟨rfl, rfl⟩]
            exact ⟨Int.le_refl _, p0⟩
          · rw [xar_puta, if_pos ⟨rfl, rfl⟩]
            exact ⟨fun w => absurd w xbit_0, fun w => absurd w.1 (by omega)⟩
        · rintro h2 ⟨i0, U2, A2⟩ l3
          obtain ⟨f111, tt⟩ := fc h2 U2
          have nx := last h2 U2 (fun i h0 h1 => A2 i h0 h1) 0 h2 (by omega) ⟨Int.le_refl _, rfl⟩
          refine Wp.vc 400 [47, 128] rfl ?_
          rw [f111, Int.one_mul]
          exact ⟨isF U2.ts rfl, isF tt rfl, fun _ => ⟨isF U2.ts rfl, isF tt rfl, ⟨by omega, by omega, by omega, by omega⟩, ⟨by omega, by omega⟩, nx⟩, fun w => absurd (Int.le_refl _) w⟩
      have k0 := outer 0 h1 (by omega) ⟨Int.le_refl _, U, fun i' h0 h1 => by omega⟩ none
      refine Wp.vc 400 [36] rfl ?_
      exact ⟨fun _ => k0, fun w => absurd (show ¬ (1 : Int) = 0 by decide) w⟩
    · rw [if_neg M0, if_neg M0]
      refine Wp.vc 400 [] rfl ?_
      first | refine ⟨fun _ => ?_, fun c => absurd (by decide) c⟩ | refine ⟨fun c => absurd c (by decide), fun _ => ?_⟩
      exact U.no (k := 2) (by decide) rfl (fun _ => rfl) rfl
