/-! WALKS, 47: fits, could, surely, firstOf, ask, askLeaves: the model, ops -/
set_option maxRecDepth 100000
set_option maxHeartbeats 4000000
theorem m_opFits {d : Nat} {h : XH} {B m n : Int} {S : XSt} (R : Rm h B m S) (O : SOK n S) : WpM (d + 3) 203 [.inr (.inr m)] h (MAn B m h (.inl (opFits S).1) (opFits S).2) := by
  refine WpM.of rfl (MU.start R O rfl (fun g U => ?_))
  have tm := U.tm
  cases e : sT S with
  | none =>
    rw [show opFits S = _ from onT_no e]
    refine Wp.vc 400 [] rfl ?_
    rw [U.noT e]
    (repeat (refine And.intro (by first | exact trivial | exact isF (by assumption) rfl | exact isW (by assumption) rfl | exact isA (by assumption) (by omega) (by omega) | exact isB (by assumption) (by omega) (by omega) | exact isR (by assumption) (by decide) (by omega) (by omega) | (refine ⟨by omega, by omega⟩)) ?_))
    refine ⟨fun w => absurd rfl w, fun _ => ?_⟩
    exact U.ref (k := 1) rfl (fun _ => rfl) rfl
  | some T =>
    rw [show opFits S = _ from onT_yes e]
    obtain ⟨ne, -⟩ := U.hasT e
    refine Wp.vc 400 [] rfl ?_
    refine ⟨isF tm rfl, fun _ => ?_, fun w => absurd ne w⟩
    refine U.fitK e rfl (Nat.zero_le _) (fun h1 U1 F1 => ?_)
    refine Wp.vc 400 [] rfl ?_
    rw [F1.2.2.2.1]
    refine ⟨isF U1.tm rfl, ?_⟩
    exact U1.good rfl (fun _ => rfl) rfl
theorem m_opFirstOf {d : Nat} {h : XH} {B m n i : Int} {S : XSt} (R : Rm h B m S) (O : SOK n S) : WpM (d + 3) 209 [.inr (.inr m), .inl i] h (MAn B m h (.inl (opFirstOf S i).1) (opFirstOf S i).2) := by
  refine WpM.of rfl (MU.start R O rfl (fun g U => ?_))
  refine Wp.vc 400 [] rfl ?_
  refine U.hou rfl (Nat.zero_le _) (fun T e i0 => ?_) (fun hp => ?_)
  · rw [show opFirstOf S i = _ from onH_yes e i0]
    have hn := (U.ok e).1.2.2.1
    refine Wp.vc 400 [] rfl ?_
    first | refine ⟨fun _ => ?_, fun c => absurd (by decide) c⟩ | refine ⟨fun c => absurd c (by decide), fun _ => ?_⟩
    refine U.fitK e rfl (Nat.zero_le _) (fun h1 U1 F1 => ?_)
    have tm := U1.tm
    obtain ⟨t11, f94⟩ := U1.lay.2.2.2.2.2.2.2.2.2.2.2.1
    obtain ⟨a1, a2, -⟩ := F1.2.2.2
    unfold fstV
    cases eh : (fitL T (sV S)).head? with
    | none =>
      have e0 : fitL T (sV S) = [] := List.head?_eq_none_iff.mp eh
      refine Wp.vc 400 [] rfl ?_
      rw [a1, e0]
      refine ⟨isF tm rfl, fun w => absurd rfl w, fun _ => ?_⟩
      exact U1.good (k := -2) rfl (fun _ => rfl) rfl
    | some r0 =>
      have e0 : fitL T (sV S) ≠ [] := fun w => by rw [w] at eh; cases eh
      have l0 : (fitL T (sV S)).length ≠ 0 := fun w => e0 (List.length_eq_zero_iff.mp w)
      refine Wp.vc 400 [] rfl ?_
      rw [a1, f94, a2 r0 eh i i0.1 i0.2]
      refine ⟨isF tm rfl, fun _ => ⟨isF tm rfl, isA t11 i0.1 (by omega), ?_⟩, fun w => absurd (Decidable.of_not_not w) (by omega)⟩
      exact U1.good rfl (fun _ => rfl) rfl
  · rw [show opFirstOf S i = _ from onH_no hp]
    refine Wp.vc 400 [] rfl ?_
    first | refine ⟨fun _ => ?_, fun c => absurd (by decide) c⟩ | refine ⟨fun c => absurd c (by decide), fun _ => ?_⟩
    exact U.ref (k := 1) rfl (fun _ => rfl) rfl
theorem m_opCould {d : Nat} {h : XH} {B m n i : Int} {S : XSt} (R : Rm h B m S) (O : SOK n S) : WpM (d + 3) 207 [.inr (.inr m), .inl i] h (MAn B m h (.inl (opCould S i).1) (opCould S i).2) := by
  refine WpM.of rfl (MU.start R O rfl (fun g U => ?_))
  refine Wp.vc 400 [] rfl ?_
  refine U.hou rfl (Nat.zero_le _) (fun T e i0 => ?_) (fun hp => ?_)
  · rw [show opCould S i = _ from onH_yes e i0]
    have hn := (U.ok e).1.2.2.1
    refine Wp.vc 400 [] rfl ?_
    first | refine ⟨fun _ => ?_, fun c => absurd (by decide) c⟩ | refine ⟨fun c => absurd c (by decide), fun _ => ?_⟩
    refine U.fitK e rfl (Nat.zero_le _) (fun h1 U1 F1 => ?_)
    have tm := U1.tm
    obtain ⟨t12, f95⟩ := U1.lay.2.2.2.2.2.2.2.2.2.2.2.2.1
    obtain ⟨ne, TX, -⟩ := U1.hasT e
    have c0 := TX.1.2.2
    have f135 : xfl h1 (xfl h1 m 69) 135 = tnh T := TX.2.2.1.2.2.1
    obtain ⟨-, -, a3⟩ := F1.2.2.2
    clear TX
    obtain ⟨L, hL⟩ : ∃ L, L = fitL T (sV S) := ⟨_, rfl⟩
    rw [← hL] at a3 ⊢
    have key : ∀ (k : Int) (g' : XH), k ≤ tnh T → (0 ≤ k ∧ g' = h1) → Wp (d + 3) 207 27 [some (.inr (.inr m)), some (.inl i), some (.inl (xset_ (fun g => decide (0 < cntL L i g)) k.toNat)), some (.inl k)] [] g' (MAn B m h (.inl (sOk S (couS L (tnh T) i)).1) (sOk S (couS L (tnh T) i)).2) := by
      refine loopUp (G := fun k g' => Wp (d + 3) 207 27 [some (.inr (.inr m)), some (.inl i), some (.inl (xset_ (fun g => decide (0 < cntL L i g)) k.toNat)), some (.inl k)] [] g' (MAn B m h (.inl (sOk S (couS L (tnh T) i)).1) (sOk S (couS L (tnh T) i)).2)) (tnh T) ?_ ?_
      · rintro k g' ⟨k0, rfl⟩ hk ih
        have ih := ih g' ⟨by omega, rfl⟩
        have x2 := x2k (k := k) ⟨k0, by omega⟩
        have cr := cntL_rg (L := L) (i := i) (g := k)
        refine Wp.vc 400 [27] rfl ?_
        rw [f135, f95, a3 i k i0.1 i0.2 k0 hk]
        refine ⟨isF tm rfl, isF c0 rfl, fun w => absurd w (by omega), fun _ => ⟨isF tm rfl, by omega, by omega, isA t12 (by omega) (by omega), fun c => ⟨by omega, ?_⟩, fun c => ⟨⟨k0, by omega, x2.1, x2.2⟩, by omega, ?_⟩⟩⟩
        · rw [xset_or (p := fun g => decide (0 < cntL L i g)) ⟨k0, by omega⟩ rfl (by rw [if_neg (by simpa using c)])]
          exact ih
        · rw [xset_or (p := fun g => decide (0 < cntL L i g)) ⟨k0, by omega⟩ rfl (by rw [if_pos (by simpa using c)])]
          exact ih
      · rintro g' ⟨k0, rfl⟩
        refine Wp.vc 400 [27, 38] rfl ?_
        rw [f135]
        refine ⟨isF tm rfl, isF c0 rfl, fun _ => ?_, fun w => absurd (Int.le_refl _) w⟩
        exact U1.good rfl (fun _ => rfl) rfl
    refine Wp.vc 400 [27] rfl ?_
    exact key 0 h1 (by omega) ⟨Int.le_refl _, rfl⟩
  · rw [show opCould S i = _ from onH_no hp]
    refine Wp.vc 400 [] rfl ?_
    first | refine ⟨fun _ => ?_, fun c => absurd (by decide) c⟩ | refine ⟨fun c => absurd c (by decide), fun _ => ?_⟩
    exact U.ref (k := 1) rfl (fun _ => rfl) rfl
theorem m_opSurely {d : Nat} {h : XH} {B m n i : Int} {S : XSt} (R : Rm h B m S) (O : SOK n S) : WpM (d + 3) 208 [.inr (.inr m), .inl i] h (MAn B m h (.inl (opSurely S i).1) (opSurely S i).2) := by
  refine WpM.of rfl (MU.start R O rfl (fun g U => ?_))
  refine Wp.vc 400 [] rfl ?_
  refine U.hou rfl (Nat.zero_le _) (fun T e i0 => ?_) (fun hp => ?_)
  · rw [show opSurely S i = _ from onH_yes e i0]
    have hn := (U.ok e).1.2.2.1
    refine Wp.vc 400 [] rfl ?_
    first | refine ⟨fun _ => ?_, fun c => absurd (by decide) c⟩ | refine ⟨fun c => absurd c (by decide), fun _ => ?_⟩
    refine U.fitK e rfl (Nat.zero_le _) (fun h1 U1 F1 => ?_)
    have tm := U1.tm
    obtain ⟨t12, f95⟩ := U1.lay.2.2.2.2.2.2.2.2.2.2.2.2.1
    obtain ⟨ne, TX, -⟩ := U1.hasT e
    have c0 := TX.1.2.2
    have f135 : xfl h1 (xfl h1 m 69) 135 = tnh T := TX.2.2.1.2.2.1
    obtain ⟨a1, -, a3⟩ := F1.2.2.2
    clear TX
    obtain ⟨L, hL⟩ : ∃ L, L = fitL T (sV S) := ⟨_, rfl⟩
    rw [← hL] at a1 a3 ⊢
    have es : surV L (tnh T) i = xfst (fun g => decide (0 < L.length ∧ cntL L i g = (L.length : Int))) (tnh T - 0).toNat 0 := by
      unfold surV
      rw [Int.sub_zero]
      by_cases c : L.length = 0
      · rw [if_pos c]
        exact (xfst_no _ _ fun q _ _ => by simp [c]).symm
      · rw [if_neg c]
        refine xfst_congr _ _ fun q _ _ => ?_
        have : 0 < L.length := by omega
        simp [this]
    have key : ∀ (k : Int) (g' : XH), k ≤ tnh T → (0 ≤ k ∧ g' = h1) → Wp (d + 3) 208 25 [some (.inr (.inr m)), some (.inl i), some (.inl k)] [] g' (MAn B m h (.inl (sOk S (xfst (fun g => decide (0 < L.length ∧ cntL L i g = (L.length : Int))) (tnh T - k).toNat k)).1) (sSet S 0 (-1))) := by
      refine loopUp (G := fun k g' => Wp (d + 3) 208 25 [some (.inr (.inr m)), some (.inl i), some (.inl k)] [] g' (MAn B m h (.inl (sOk S (xfst (fun g => decide (0 < L.length ∧ cntL L i g = (L.length : Int))) (tnh T - k).toNat k)).1) (sSet S 0 (-1)))) (tnh T) ?_ ?_
      · rintro k g' ⟨k0, rfl⟩ hk ih
        have ih := ih g' ⟨by omega, rfl⟩
        rw [xfst_st hk]
        have nx : ¬ (0 < L.length ∧ cntL L i k = (L.length : Int)) → Wp (d + 3) 208 67 [some (.inr (.inr m)), some (.inl i), some (.inl k)] [] g' (MAn B m h (.inl (sOk S (if decide (0 < L.length ∧ cntL L i k = (L.length : Int)) = true then k else xfst (fun g => decide (0 < L.length ∧ cntL L i g = (L.length : Int))) (tnh T - (k + 1)).toNat (k + 1))).1) (sSet S 0 (-1))) := by
          intro c
          rw [if_neg (by simpa using c)]
          refine Wp.vc 400 [25] rfl ?_
          exact ⟨by omega, ih⟩
        clear ih
        refine Wp.vc 400 [25, 67] rfl ?_
        rw [f135, f95, a1, a3 i k i0.1 i0.2 k0 hk]
        refine ⟨isF tm rfl, isF c0 rfl, fun w => absurd w (by omega), fun _ => ⟨isF tm rfl, fun c => nx (fun w => by omega), fun c => ⟨isF tm rfl, by omega, by omega, isA t12 (by omega) (by omega), isF tm rfl, fun c2 => nx (fun w => c2 w.2), fun c2 => ?_⟩⟩⟩
        rw [if_pos (by have c2 := Decidable.of_not_not c2; simp only [decide_eq_true_eq]; exact ⟨by omega, c2⟩)]
        exact U1.good rfl (fun _ => rfl) rfl
      · rintro g' ⟨k0, rfl⟩
        rw [xfst_end]
        refine Wp.vc 400 [25, 36] rfl ?_
        rw [f135]
        refine ⟨isF tm rfl, isF c0 rfl, fun _ => ?_, fun w => absurd (Int.le_refl _) w⟩
        exact U1.good (k := -2) rfl (fun _ => rfl) rfl
    have k0 := key 0 h1 (by omega) ⟨Int.le_refl _, rfl⟩
    rw [← es] at k0
    refine Wp.vc 400 [25] rfl ?_
    exact k0
  · rw [show opSurely S i = _ from onH_no hp]
    refine Wp.vc 400 [] rfl ?_
    first | refine ⟨fun _ => ?_, fun c => absurd (by decide) c⟩ | refine ⟨fun c => absurd c (by decide), fun _ => ?_⟩
    exact U.ref (k := 1) rfl (fun _ => rfl) rfl
def askU (L : List (Int → Int)) (n b i : Int) : Int := if b = -2 ∨ leaV L n i < leaV L n b then i else b
theorem askF_unk {L : List (Int → Int)} {V : Int → Int} {n : Int} : askF L V n n = (unk V n).foldl (askU L n) (-2) := by
  unfold askF unk
  rw [List.foldl_filter]
  congr 1
  funext b i
  unfold ask1 askU
  by_cases c : V i = -2
  · rw [if_pos c]
    exact (if_pos (by simpa using c)).symm
  · rw [if_neg c]
    exact (if_neg (by simpa using c)).symm
theorem MU.asksK {d M pc np : Nat} {ls : XL} {st rest : XS} {B m n : Int} {h0 h : XH} {S : XSt} {T : XTw} {Q : XO → XH → Prop} (U : MU B m n h0 h S) (eT : sT S = some T) (e : xstK M pc 0 st = some (np, some 9, 211, [.inr (.inr m)], rest)) (hw : xwords rest ≤ 8) (k : ∀ h1, MU B m n h0 h1 S → xfl h1 m 98 = (if askV (fitL T (sV S)) (sV S) (tnh T) = -2 then -2 else leaV (fitL T (sV S)) (tnh T) (askV (fitL T (sV S)) (sV S) (tnh T))) → Wp (d + 4) M np ls (.inl (askV (fitL T (sV S)) (sV S) (tnh T)) :: rest) h1 Q) : Wp (d + 4) M pc ls st h Q := by
  refine Wp.callR e hw ⟨true, U.tm⟩ (Q1 := fun v h' => v = some (.inl (askV (fitL T (sV S)) (sV S) (tnh T))) ∧ MU B m n h0 h' S ∧ xfl h' m 98 = (if askV (fitL T (sV S)) (sV S) (tnh T) = -2 then -2 else leaV (fitL T (sV S)) (tnh T) (askV (fitL T (sV S)) (sV S) (tnh T)))) ?_ (fun v h1 q => by
    obtain ⟨rfl, q1, q2⟩ := q
    exact k h1 q1 q2)
  refine WpM.of rfl (Wp.vc 400 [] rfl ?_)
  refine U.fitK eT rfl (Nat.zero_le _) (fun h1 U1 F1 => ?_)
  have tm := U1.tm
  have put : ∀ g z, MU B m n h0 g S → MU B m n h0 (xputf g m 98 z) S := fun g z Ug => Ug.scr ((XFr.refl g).putf (Or.inr ⟨rfl, by omega⟩)) rfl rfl
  have U2 := put h1 (-2) U1
  have hn := (U1.ok eT).1.2.2.1
  have bnd := U1.bnd
  obtain ⟨a1, a2, a3⟩ := F1.2.2.2
  have A9 := F1.2.1
  have f96 := F1.2.2.1
  have ul := unk_len (V := sV S) (n := tnh T) (by omega)
  have um := fun i => unk_mem (V := sV S) (n := tnh T) (i := i)
  have au := askF_unk (L := fitL T (sV S)) (V := sV S) (n := tnh T)
  obtain ⟨t12, f95⟩ := U1.lay.2.2.2.2.2.2.2.2.2.2.2.2.1
  obtain ⟨t9, f92⟩ := U1.lay.2.2.2.2.2.2.2.2.2.1
  obtain ⟨ne, TX, -⟩ := U1.hasT eT
  have c0 := TX.1.2.2
  have tbs := TX.1.1
  have f135 : xfl h1 (xfl h1 m 69) 135 = tnh T := TX.2.2.1.2.2.1
  clear TX
  obtain ⟨L, hL⟩ : ∃ L, L = fitL T (sV S) := ⟨_, rfl⟩
  rw [← hL] at a1 a2 a3 au ⊢
  obtain ⟨un, hun⟩ : ∃ un, un = unk (sV S) (tnh T) := ⟨_, rfl⟩
  rw [← hun] at A9 f96 ul um au
  -- heaps that differ from h1 in askLeft alone
  have key : ∀ (k : Nat) (g : XH), k ≤ un.length → (∀ x i, xar g x i = xar h1 x i) → (∀ x f, (x ≠ m ∨ f ≠ 98) → xfl g x f = xfl h1 x f) → (∀ x, xty g x = xty h1 x) → MU B m n h0 g S → xfl g m 98 = (if (un.take k).foldl (askU L (tnh T)) (-2) = -2 then -2 else leaV L (tnh T) ((un.take k).foldl (askU L (tnh T)) (-2))) → L.length ≠ 0 → ∀ l3 l4, Wp (d + 3) 211 15 [some (.inr (.inr m)), some (.inl ((un.take k).foldl (askU L (tnh T)) (-2))), some (.inl (k : Int)), l3, l4] [] g (fun o h' => ∃ v, o = .inl v ∧ v = some (.inl (askV L (sV S) (tnh T))) ∧ MU B m n h0 h' S ∧ xfl h' m 98 = (if askV L (sV S) (tnh T) = -2 then -2 else leaV L (tnh T) (askV L (sV S) (tnh T)))) := by
    have gen : ∀ (r : Nat) (k : Nat) (g : XH), un.length - k = r → k ≤ un.length → (∀ x i, xar g x i = xar h1 x i) → (∀ x f, (x ≠ m ∨ f ≠ 98) → xfl g x f = xfl h1 x f) → (∀ x, xty g x = xty h1 x) → MU B m n h0 g S → xfl g m 98 = (if (un.take k).foldl (askU L (tnh T)) (-2) = -2 then -2 else leaV L (tnh T) ((un.take k).foldl (askU L (tnh T)) (-2))) → L.length ≠ 0 → ∀ l3 l4, Wp (d + 3) 211 15 [some (.inr (.inr m)), some (.inl ((un.take k).foldl (askU L (tnh T)) (-2))), some (.inl (k : Int)), l3, l4] [] g (fun o h' => ∃ v, o = .inl v ∧ v = some (.inl (askV L (sV S) (tnh T))) ∧ MU B m n h0 h' S ∧ xfl h' m 98 = (if askV L (sV S) (tnh T) = -2 then -2 else leaV L (tnh T) (askV L (sV S) (tnh T)))) := by
      intro r
      induction r with
      | zero =>
        intro k g hr hk ga gf gt Ug g98 hL0 l3 l4
        have ek : k = un.length := by omega
        have ea : askV L (sV S) (tnh T) = un.foldl (askU L (tnh T)) (-2) := by
          unfold askV
          rw [if_neg hL0, au]
        rw [ek, List.take_length, ← ea] at g98 ⊢
        have tmg := Ug.tm
        refine Wp.vc 400 [23, 15] rfl ?_
        rw [gf m 96 (Or.inr (by decide)), f96]
        exact ⟨isF tmg rfl, fun _ => ⟨trivial, _, rfl, rfl, Ug, g98⟩, fun w => absurd (Int.le_refl _) w⟩
      | succ r ih =>
        intro k g hr hk ga gf gt Ug g98 hL0 l3 l4
        have kl : k < un.length := by omega
        have tmg := Ug.tm
        have fl : ∀ f, f ≠ 98 → xfl g m f = xfl h1 m f := fun f hf => gf m f (Or.inr hf)
        have f135g : xfl g (xfl h1 m 69) 135 = tnh T := (gf _ 135 (Or.inr (by decide))).trans f135
        have c0g := (gt (xfl h1 m 69)).trans c0
        have t12g := (gt (m + 12)).trans t12
        have t9g := (gt (m + 9)).trans t9
        have et : un.take (k + 1) = un.take k ++ [un[k]] := List.take_succ_eq_append_getElem kl
        have uk : un.getD k 0 = un[k] := by simp [List.getD, kl]
        have im := ((um un[k]).mp (List.getElem_mem kl)).1
        obtain ⟨i, hi⟩ : ∃ i, i = un[k] := ⟨_, rfl⟩
        rw [← hi] at et uk im
        have a9 : xar g (m + 9) (k : Int) = i := ((ga _ _).trans (A9 k kl)).trans uk
        have bo : (un.take (k + 1)).foldl (askU L (tnh T)) (-2) = askU L (tnh T) ((un.take k).foldl (askU L (tnh T)) (-2)) i := by
          rw [et, List.foldl_append]
          rfl
        obtain ⟨b, hb⟩ : ∃ b, b = (un.take k).foldl (askU L (tnh T)) (-2) := ⟨_, rfl⟩
        rw [← hb] at bo g98 ⊢
        have nx : ∀ (g' : XH) v, (g' = g ∨ ∃ z, g' = xputf g m 98 z) → xfl g' m 98 = (if v = -2 then -2 else leaV L (tnh T) v) → askU L (tnh T) b i = v → ∀ l3 l4, Wp (d + 3) 211 121 [some (.inr (.inr m)), some (.inl v), some (.inl (k : Int)), l3, l4] [] g' (fun o h' => ∃ v, o = .inl v ∧ v = some (.inl (askV L (sV S) (tnh T))) ∧ MU B m n h0 h' S ∧ xfl h' m 98 = (if askV L (sV S) (tnh T) = -2 then -2 else leaV L (tnh T) (askV L (sV S) (tnh T)))) := by
          intro g' v hg' g98' hv l3 l4
          have ih := ih (k + 1) g' (by omega) (by omega) (fun x j => by
            rcases hg' with rfl | ⟨z, rfl⟩
            · exact ga x j
            · exact ga x j) (fun x f hf => by
            rcases hg' with rfl | ⟨z, rfl⟩
            · exact gf x f hf
            · rw [xfl_putf, if_neg (fun w => by rcases hf with q | q; exact q w.1; exact q w.2)]
              exact gf x f hf) (fun x => by
            rcases hg' with rfl | ⟨z, rfl⟩
            · exact gt x
            · exact gt x) (by
            rcases hg' with rfl | ⟨z, rfl⟩
            · exact Ug
            · exact put _ _ Ug) (by rw [bo, hv]; exact g98') hL0 l3 l4
          rw [bo, hv, show ((k + 1 : Nat) : Int) = (k : Int) + 1 by omega] at ih
          refine Wp.vc 400 [15] rfl ?_
          exact ⟨by omega, ih⟩
        clear ih
        unfold askU at nx
        -- the inner loop
        have inner : ∀ (q : Int) (g' : XH), q ≤ tnh T → (0 ≤ q ∧ g' = g) → Wp (d + 3) 211 35 [some (.inr (.inr m)), some (.inl b), some (.inl (k : Int)), some (.inl (leaV L q i)), some (.inl q)] [] g' (fun o h' => ∃ v, o = .inl v ∧ v = some (.inl (askV L (sV S) (tnh T))) ∧ MU B m n h0 h' S ∧ xfl h' m 98 = (if askV L (sV S) (tnh T) = -2 then -2 else leaV L (tnh T) (askV L (sV S) (tnh T)))) := by
          refine loopUp (G := fun q g' => Wp (d + 3) 211 35 [some (.inr (.inr m)), some (.inl b), some (.inl (k : Int)), some (.inl (leaV L q i)), some (.inl q)] [] g' (fun o h' => ∃ v, o = .inl v ∧ v = some (.inl (askV L (sV S) (tnh T))) ∧ MU B m n h0 h' S ∧ xfl h' m 98 = (if askV L (sV S) (tnh T) = -2 then -2 else leaV L (tnh T) (askV L (sV S) (tnh T))))) (tnh T) ?_ ?_
          · rintro q g' ⟨q0, rfl⟩ hq ih
            have ih := ih g' ⟨by omega, rfl⟩
            rw [leaV_succ q0] at ih
            unfold lea1 at ih
            have cq : xar g' (m + 12) (7 * i + q) = cntL L i q := (ga _ _).trans (a3 i q im.1 im.2 q0 hq)
            refine Wp.vc 400 [35, 92] rfl ?_
            rw [fl 69 (by decide), f135g, (fl 95 (by decide)).trans f95, (fl 92 (by decide)).trans f92, a9, cq]
            refine ⟨isF tmg rfl, isF c0g rfl, fun w => absurd w (by omega), fun _ => ⟨isF tmg rfl, isF tmg rfl, isA t9g (by omega) (by omega), by omega, by omega, isA t12g (by omega) (by omega), fun c => ⟨by omega, ?_⟩, fun c => ⟨isF tmg rfl, isF tmg rfl, isA t9g (by omega) (by omega), by omega, by omega, isA t12g (by omega) (by omega), by omega, ?_⟩⟩⟩
            · rw [if_neg (by omega)] at ih
              exact ih
            · rw [if_pos (by omega)] at ih
              exact ih
          · rintro g' ⟨q0, rfl⟩
            have take : (b = -2 ∨ leaV L (tnh T) i < leaV L (tnh T) b) → ∀ l4, Wp (d + 3) 211 109 [some (.inr (.inr m)), some (.inl b), some (.inl (k : Int)), some (.inl (leaV L (tnh T) i)), l4] [] g' (fun o h' => ∃ v, o = .inl v ∧ v = some (.inl (askV L (sV S) (tnh T))) ∧ MU B m n h0 h' S ∧ xfl h' m 98 = (if askV L (sV S) (tnh T) = -2 then -2 else leaV L (tnh T) (askV L (sV S) (tnh T)))) := by
              intro c l4
              have nx := nx (xputf g' m 98 (leaV L (tnh T) i)) i (Or.inr ⟨_, rfl⟩) (by rw [xfl_putf, if_pos ⟨rfl, rfl⟩, if_neg (by omega)]) (by rw [if_pos c]) (some (.inl (leaV L (tnh T) i))) l4
              refine Wp.vc 400 [121] rfl ?_
              rw [(fl 92 (by decide)).trans f92, a9]
              exact ⟨isF tmg rfl, isA t9g (by omega) (by omega), isW tmg rfl, nx⟩
            refine Wp.vc 400 [35, 47, 109, 121] rfl ?_
            rw [fl 69 (by decide), f135g]
            refine ⟨isF tmg rfl, isF c0g rfl, fun _ => ⟨fun c => take (Or.inl c) _, fun c => ⟨isF tmg rfl, fun c2 => take (Or.inr ?_) _, fun c2 => nx g' b (Or.inl rfl) g98 ?_ _ _⟩⟩, fun w => absurd (Int.le_refl _) w⟩
            · rw [g98, if_neg c] at c2
              exact c2
            · rw [g98, if_neg c] at c2
              rw [if_neg (fun w => w.elim c c2)]
        refine Wp.vc 400 [15, 35, 127] rfl ?_
        rw [fl 96 (by decide), f96, (fl 97 (by decide)).trans a1]
        exact ⟨isF tmg rfl, fun w => absurd w (by omega), fun _ => ⟨isF tmg rfl, fun w => absurd w (by omega), fun _ => inner 0 g (by omega) ⟨Int.le_refl _, rfl⟩⟩⟩
    exact fun k g => gen _ k g rfl
  by_cases hL0 : L.length = 0
  · have ea : askV L (sV S) (tnh T) = -2 := if_pos hL0
    rw [ea]
    have e98 : xfl (xputf h1 m 98 (-2)) m 98 = -2 := by rw [xfl_putf, if_pos ⟨rfl, rfl⟩]
    have fin : ∀ ls, Wp (d + 3) 211 127 (some (.inr (.inr m)) :: some (.inl (-2)) :: ls) [] (xputf h1 m 98 (-2)) (fun o h' => ∃ v, o = .inl v ∧ v = some (.inl (-2)) ∧ MU B m n h0 h' S ∧ xfl h' m 98 = if (-2 : Int) = -2 then -2 else leaV L (tnh T) (-2)) := by
      intro ls
      refine Wp.vc 400 [] rfl ?_
      exact ⟨trivial, _, rfl, rfl, U2, e98.trans (if_pos rfl).symm⟩
    refine Wp.vc 400 [127, 30] rfl ?_
    rw [show xfl (xputf h1 m 98 (-2)) m 97 = 0 by rw [xfl_putf, if_neg (by omega), a1, hL0]; rfl]
    exact ⟨isW tm rfl, isF tm rfl, fun _ => fin _, fun _ => ⟨isF tm rfl, fun _ => fin _, fun w => absurd (Int.le_refl 0) w⟩⟩
  · have k0 := key 0 (xputf h1 m 98 (-2)) (Nat.zero_le _) (fun x i => rfl) (fun x f hf => by rw [xfl_putf, if_neg (fun w => by rcases hf with q | q; exact q w.1; exact q w.2)]) (fun x => rfl) U2 (by rw [xfl_putf, if_pos ⟨rfl, rfl⟩]; rfl) hL0 none none
    refine Wp.vc 400 [15] rfl ?_
    exact ⟨isW tm rfl, k0⟩
theorem m_opAsk {d : Nat} {h : XH} {B m n : Int} {S : XSt} (R : Rm h B m S) (O : SOK n S) : WpM (d + 4) 210 [.inr (.inr m)] h (MAn B m h (.inl (opAsk S).1) (opAsk S).2) := by
  refine WpM.of rfl (MU.start R O rfl (fun g U => ?_))
  have tm := U.tm
  cases e : sT S with
  | none =>
    rw [show opAsk S = _ from onT_no e]
    refine Wp.vc 400 [] rfl ?_
    rw [U.noT e]
    (repeat (refine And.intro (by first | exact trivial | exact isF (by assumption) rfl | exact isW (by assumption) rfl | exact isA (by assumption) (by omega) (by omega) | exact isB (by assumption) (by omega) (by omega) | exact isR (by assumption) (by decide) (by omega) (by omega) | (refine ⟨by omega, by omega⟩)) ?_))
    refine ⟨fun w => absurd rfl w, fun _ => ?_⟩
    exact U.ref (k := 1) rfl (fun _ => rfl) rfl
  | some T =>
    rw [show opAsk S = _ from onT_yes e]
    obtain ⟨ne, -⟩ := U.hasT e
    refine Wp.vc 400 [] rfl ?_
    refine ⟨isF tm rfl, fun _ => ?_, fun w => absurd ne w⟩
    refine U.asksK e rfl (Nat.le_of_ble_eq_true rfl) (fun h1 U1 _ => ?_)
    exact U1.good rfl (fun _ => rfl) rfl
theorem m_opAskLeaves {d : Nat} {h : XH} {B m n : Int} {S : XSt} (R : Rm h B m S) (O : SOK n S) : WpM (d + 4) 212 [.inr (.inr m)] h (MAn B m h (.inl (opAskLeaves S).1) (opAskLeaves S).2) := by
  refine WpM.of rfl (MU.start R O rfl (fun g U => ?_))
  have tm := U.tm
  cases e : sT S with
  | none =>
    rw [show opAskLeaves S = _ from onT_no e]
    refine Wp.vc 400 [] rfl ?_
    rw [U.noT e]
    (repeat (refine And.intro (by first | exact trivial | exact isF (by assumption) rfl | exact isW (by assumption) rfl | exact isA (by assumption) (by omega) (by omega) | exact isB (by assumption) (by omega) (by omega) | exact isR (by assumption) (by decide) (by omega) (by omega) | (refine ⟨by omega, by omega⟩)) ?_))
    refine ⟨fun w => absurd rfl w, fun _ => ?_⟩
    exact U.ref (k := 1) rfl (fun _ => rfl) rfl
  | some T =>
    rw [show opAskLeaves S = _ from onT_yes e]
    obtain ⟨ne, -⟩ := U.hasT e
    refine Wp.vc 400 [] rfl ?_
    refine ⟨isF tm rfl, fun _ => ?_, fun w => absurd ne w⟩
    refine U.asksK e rfl (Nat.le_of_ble_eq_true rfl) (fun h1 U1 f98 => ?_)
    refine Wp.vc 400 [] rfl ?_
    rw [f98]
    refine ⟨isF U1.tm rfl, ?_⟩
    exact U1.good rfl (fun _ => rfl) rfl
