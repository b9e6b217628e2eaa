/-! WALKS, 21: strings are equal; what is noticed; judge -/
set_option maxRecDepth 100000
set_option maxHeartbeats 4000000
/-- a string to read: its bytes w -/
def BytV (h : XH) (a : Int) (w : List Int) : Prop := w.length ≤ 8 ∧ (∃ r : Bool, xty h a = some (r, 1, some (w.length : Int))) ∧ ∀ j : Nat, j < w.length → xar h a (j : Int) = w.getD j 0
def StrV (h : XH) (a : Int) (w : List Int) : Prop := (∃ r : Bool, xty h a = some (r, 16, none)) ∧ xfl h a 161 = 0 ∧ BytV h (xfl h a 160) w
theorem StrX.v {h : XH} {B a : Int} {w : List Int} (s : StrX h B a w) (l : w.length ≤ 8) : StrV h a w := ⟨⟨_, s.1.2.2⟩, s.2.2.1, l, ⟨_, s.2.1.2.2⟩, s.2.2.2⟩
theorem BytV.len {h : XH} {a : Int} {w : List Int} (s : BytV h a w) : (∃ (r : Bool) (e : Nat) (n : Int), xty h a = some (r, e, some n)) ∧ xlenT (xty h a) = (w.length : Int) := by
  obtain ⟨-, ⟨r, t⟩, -⟩ := s
  exact ⟨⟨_, _, _, t⟩, by rw [t]; rfl⟩
theorem BytV.at {h : XH} {a i : Int} {w : List Int} (s : BytV h a w) (h0 : 0 ≤ i) (h1 : i < w.length) : xIsA h a 1 i ∧ xar h a i = w.getD i.toNat 0 := by
  obtain ⟨-, ⟨r, t⟩, c⟩ := s
  refine ⟨isA t h0 h1, ?_⟩
  have := c i.toNat (by omega)
  rwa [show ((i.toNat : Nat) : Int) = i by omega] at this
theorem list_eq_getD : ∀ {w v : List Int}, w.length = v.length → (∀ j : Nat, j < w.length → w.getD j 0 = v.getD j 0) → w = v := by
  intro w v hl h
  refine List.ext_getElem hl fun i h1 h2 => ?_
  have := h i h1
  simpa [List.getD, h1, h2] using this
theorem x_L1eq {d : Nat} {h : XH} {p q : Int} {w v : List Int} (P : BytV h p w) (V : BytV h q v) : WpM d 278 [.inr (.inr p), .inr (.inr q)] h (XE (some (.inl (if w = v then 1 else 0))) h) := by
  obtain ⟨p1, p2⟩ := P.len
  obtain ⟨q1, q2⟩ := V.len
  refine WpM.of rfl (Wp.vc 400 [9] rfl ?_)
  rw [p2, q2]
  refine ⟨p1, q1, fun c => ⟨⟨by decide, by decide⟩, ?_⟩, fun c => ?_⟩
  · rw [if_neg (fun e => c (by rw [e]))]
    exact XE.mk
  · have hl : w.length = v.length := by omega
    have key : ∀ (k : Int) (g : XH), k ≤ (w.length : Int) → (0 ≤ k ∧ g = h ∧ ∀ j : Nat, (j : Int) < k → w.getD j 0 = v.getD j 0) → Wp d 278 9 [some (.inr (.inr p)), some (.inr (.inr q)), some (.inl k)] [] g (XE (some (.inl (if w = v then 1 else 0))) h) := by
      refine loopUp (G := fun k g => Wp d 278 9 [some (.inr (.inr p)), some (.inr (.inr q)), some (.inl k)] [] g (XE (some (.inl (if w = v then 1 else 0))) h)) (w.length : Int) ?_ ?_
      · rintro k g ⟨k0, rfl, hk⟩ kn ih
        obtain ⟨a1, a2⟩ := P.at k0 kn
        obtain ⟨b1, b2⟩ := V.at k0 (by omega)
        have w8 := P.1
        refine Wp.vc 400 [9] rfl ?_
        rw [p2, a2, b2]
        refine ⟨p1, fun c => absurd c (by omega), fun _ => ⟨a1, b1, fun c => ?_, fun c => ⟨⟨by decide, by decide⟩, ?_⟩⟩⟩
        · (repeat (refine And.intro (by first | exact trivial | exact isF (by assumption) rfl | exact isW (by assumption) rfl | exact isA (by assumption) (by omega) (by omega) | exact isB (by assumption) (by omega) (by omega) | exact isR (by assumption) (by decide) (by omega) (by omega) | (refine ⟨by omega, by omega⟩)) ?_))
          exact ih g ⟨by omega, rfl, fun j hj => by
            by_cases e : (j : Int) = k
            · have ej : j = k.toNat := by omega
              rw [ej]; exact c
            · exact hk j (by omega)⟩
        · rw [if_neg (fun e => c (by rw [e]))]
          exact XE.mk
      · rintro g ⟨k0, rfl, hk⟩
        refine Wp.vc 400 [9] rfl ?_
        rw [p2]
        refine ⟨p1, fun _ => ⟨⟨by decide, by decide⟩, ?_⟩, fun c => absurd (Int.le_refl _) c⟩
        rw [if_pos (list_eq_getD hl (fun j hj => hk j (by omega)))]
        exact XE.mk
    exact key 0 h (by omega) ⟨by decide, rfl, fun j hj => by omega⟩
theorem x_equals {d : Nat} {h : XH} {a b : Int} {w v : List Int} (P : StrV h a w) (V : StrV h b v) : WpM (d + 1) 267 [.inr (.inr a), .inr (.inr b)] h (XE (some (.inl (if w = v then 1 else 0))) h) := by
  obtain ⟨⟨ra, ta⟩, ca, pa⟩ := P
  obtain ⟨⟨rb, tb⟩, cb, pb⟩ := V
  refine WpM.of rfl (Wp.vc 400 [] rfl ?_)
  rw [ca, cb]
  refine ⟨fun c => ?_, fun c => ⟨⟨by decide, by decide⟩, ?_⟩⟩
  · refine ⟨Or.inr ⟨rb, 16, tb, rfl⟩, ?_⟩
    rw [show xinsT [16] (xty h b) = 1 by rw [tb]; rfl]
    refine ⟨fun w => absurd w (by decide), fun _ => ⟨⟨rb, 16, tb, rfl⟩, ?_⟩⟩
    first | refine ⟨fun _ => ?_, fun c => absurd (by decide) c⟩ | refine ⟨fun c => absurd c (by decide), fun _ => ?_⟩
    refine ⟨isF ta rfl, isF tb rfl, fun w => absurd rfl w, fun _ => ⟨isF ta rfl, isF tb rfl, ?_⟩⟩
    refine Wp.callE (j := 0) rfl (Nat.le_of_ble_eq_true rfl) trivial (x_L1eq pa pb) ?_
    by_cases q : w = v
    · rw [if_pos q]
      refine Wp.vc 400 [] rfl ?_
      exact ⟨fun w => absurd w (by decide), fun _ => ⟨⟨by decide, by decide⟩, rfl, rfl⟩⟩
    · rw [if_neg q]
      refine Wp.vc 400 [] rfl ?_
      exact ⟨fun _ => ⟨⟨by decide, by decide⟩, rfl, rfl⟩, fun w => absurd rfl w⟩
  · have c : a = b := Decidable.of_not_not c
    subst c
    have hl : w.length = v.length := by
      have h1 := pa.len.2
      have h2 := pb.len.2
      rw [h1] at h2
      omega
    rw [if_pos (list_eq_getD hl fun j hj => by rw [← pa.2.2 j hj, ← pb.2.2 j (by omega)])]
    exact XE.mk
/-- packed words tell words apart -/
theorem xpackA_app (v : Int) (w : List Int) (c : Int) : xpackA v (w ++ [c]) = 32 * xpackA v w + (c - 97 + 1) := by
  unfold xpackA
  rw [List.foldl_append]
  rfl
theorem xpackA_rg : ∀ (w : List Int), (∀ c ∈ w, 97 ≤ c ∧ c ≤ 122) → ∀ v : Int, 0 ≤ v → 0 ≤ xpackA v w ∧ (w ≠ [] → 1 ≤ xpackA v w) := by
  intro w
  induction w with
  | nil => intro _ v hv; exact ⟨hv, fun e => absurd rfl e⟩
  | cons c w ih =>
    intro hc v hv
    have h1 := hc c List.mem_cons_self
    have h2 : 0 ≤ 32 * v + (c - 97 + 1) := by omega
    have h3 := ih (fun x hx => hc x (List.mem_cons_of_mem _ hx)) (32 * v + (c - 97 + 1)) h2
    refine ⟨h3.1, fun _ => ?_⟩
    cases w with
    | nil => show 1 ≤ 32 * v + (c - 97 + 1); omega
    | cons c' w' => exact h3.2 (by simp)
theorem xpack_inj_len : ∀ (n : Nat) (w v : List Int), w.length ≤ n → (∀ c ∈ w, 97 ≤ c ∧ c ≤ 122) → (∀ c ∈ v, 97 ≤ c ∧ c ≤ 122) → xpack w = xpack v → w = v := by
  intro n
  induction n with
  | zero =>
    intro w v hl hw hv e
    have : w = [] := List.length_eq_zero_iff.mp (by omega)
    subst this
    by_cases c : v = []
    · exact c.symm
    · have := (xpackA_rg v hv 0 (Int.le_refl _)).2 c
      have e0 : xpack [] = 0 := rfl
      rw [e0] at e
      unfold xpack at e
      omega
  | succ n ih =>
    intro w v hl hw hv e
    rcases List.eq_nil_or_concat w with rfl | ⟨w', a, rfl⟩
    · exact ih [] v (by simp) hw hv e
    · rw [List.concat_eq_append] at hw hl e ⊢
      rcases List.eq_nil_or_concat v with rfl | ⟨v', b, rfl⟩
      · have := (xpackA_rg (w' ++ [a]) hw 0 (Int.le_refl _)).2 (by simp)
        have e0 : xpack [] = 0 := rfl
        rw [e0] at e
        unfold xpack at e
        omega
      · rw [List.concat_eq_append] at hv e ⊢
        unfold xpack at e
        rw [xpackA_app, xpackA_app] at e
        have h1 := hw a (by simp)
        have h2 := hv b (by simp)
        have hab : a = b := by omega
        have e' : xpack w' = xpack v' := by unfold xpack; omega
        rw [hab, ih w' v' (by simp at hl; omega) (fun c hc => hw c (by simp [hc])) (fun c hc => hv c (by simp [hc])) e']
theorem xpack_inj {w v : List Int} (hw : xword w) (hv : xword v) : xpack w = xpack v ↔ w = v := ⟨fun e => xpack_inj_len w.length w v (Nat.le_refl _) hw.2.2 hv.2.2 e, fun e => by rw [e]⟩
/-- what is noticed is of house i -/
abbrev notOf (T : XTw) (q : Int × Int × Int) (i : Int) : Prop := if q.2.1 = 0 then thv T 6 i = q.2.2 else q.2.2 ≤ thv T 0 i
theorem x_SignIsOf {d : Nat} {h : XH} {B B' a b i : Int} {T : XTw} {q : Int × Int × Int} (N : NoteX h B a q) (q0 : q.2.1 = 0) (H : HouseX h B' T b i) : (∃ r : Bool, xty h a = some (r, 13, none)) ∧ WpM (d + 2) 288 [.inr (.inr a), .inr (.inr b)] h (XE (some (.inl (if notOf T q i then 1 else 0))) h) := by
  obtain ⟨-, N⟩ := N
  rcases N with ⟨-, ca, w, w1, w2, w3⟩ | ⟨q1, -⟩
  · obtain ⟨cb, -, v, v1, v2, v3⟩ := H
    have eq : notOf T q i ↔ v = w := by
      unfold notOf
      rw [if_pos q0, ← w2, ← v2]
      exact xpack_inj v1 w1
    have ta := ca.2.2
    have tb := cb.2.2
    refine ⟨⟨_, ta⟩, ?_⟩
    have k := x_equals (d := d) (v3.v v1.2.1) (w3.v w1.2.1)
    refine WpM.of rfl (Wp.vc 400 [] rfl ?_)
    refine ⟨isF tb rfl, isF ta rfl, ?_⟩
    refine Wp.callE (j := 0) rfl (Nat.le_of_ble_eq_true rfl) (v3.v v1.2.1).1 k ?_
    by_cases c : v = w
    · rw [if_pos c, if_pos (eq.mpr c)]
      refine Wp.vc 400 [] rfl ?_
      exact ⟨⟨by decide, by decide⟩, rfl, rfl⟩
    · rw [if_neg c, if_neg (fun e => c (eq.mp e))]
      refine Wp.vc 400 [] rfl ?_
      exact ⟨⟨by decide, by decide⟩, rfl, rfl⟩
  · omega
theorem x_NoiseIsOf {d : Nat} {h : XH} {B B' a b i : Int} {T : XTw} {q : Int × Int × Int} (N : NoteX h B a q) (q0 : q.2.1 = 1) (H : HouseX h B' T b i) : (∃ r : Bool, xty h a = some (r, 14, none)) ∧ WpM (d + 2) 290 [.inr (.inr a), .inr (.inr b)] h (XE (some (.inl (if notOf T q i then 1 else 0))) h) := by
  obtain ⟨-, N⟩ := N
  rcases N with ⟨q1, -⟩ | ⟨-, ca, w⟩
  · omega
  · obtain ⟨cb, v, -⟩ := H
    have v0 := v.2.1
    have eq : notOf T q i ↔ q.2.2 ≤ thv T 0 i := by
      unfold notOf
      rw [if_neg (by omega)]
    have ta := ca.2.2
    have tb := cb.2.2
    refine ⟨⟨_, ta⟩, ?_⟩
    refine WpM.of rfl (Wp.vc 400 [] rfl ?_)
    rw [v0, w]
    refine ⟨isF tb rfl, isF ta rfl, fun c => ⟨⟨by decide, by decide⟩, ?_⟩, fun c => ⟨⟨by decide, by decide⟩, ?_⟩⟩
    · rw [if_neg (fun e => by have := eq.mp e; omega)]
      exact XE.mk
    · rw [if_pos (eq.mpr (by omega))]
      exact XE.mk
/-- a call of n.isOf(h) on a notice -/
theorem Wp.isOf {d M pc np : Nat} {ls : XL} {st rest : XS} {h : XH} {B B' a b i : Int} {T : XTw} {q : Int × Int × Int} {Q : XO → XH → Prop} (N : NoteX h B a q) (H : HouseX h B' T b i) (e0 : xstK M pc 0 st = some (np, some 13, 288, [.inr (.inr a), .inr (.inr b)], rest)) (e1 : xstK M pc 1 st = some (np, some 14, 290, [.inr (.inr a), .inr (.inr b)], rest)) (hw : xwords rest ≤ 8) (k1 : notOf T q i → Wp (d + 3) M np ls (.inl 1 :: rest) h Q) (k0 : ¬ notOf T q i → Wp (d + 3) M np ls (.inl 0 :: rest) h Q) : Wp (d + 3) M pc ls st h Q := by
  have key : Wp (d + 3) M np ls (.inl (if notOf T q i then 1 else 0) :: rest) h Q := by
    by_cases c : notOf T q i
    · rw [if_pos c]; exact k1 c
    · rw [if_neg c]; exact k0 c
  rcases N.2 with ⟨q0, -⟩ | ⟨q1, -⟩
  · obtain ⟨t, k⟩ := x_SignIsOf (d := d) N q0 H
    exact Wp.callE e0 hw t k key
  · obtain ⟨t, k⟩ := x_NoiseIsOf (d := d) N q1 H
    exact Wp.callE e1 hw t k key
/-- whether a room may be of a house by all that is noticed -/
def mayB (T : XTw) (i j : Int) : Prop := i ≠ j ∧ ∀ q ∈ tnt T, q.1 = i → notOf T q j
theorem x_mayBe {d : Nat} {h : XH} {B t i j : Int} {T : XTw} (TX : TownX h B t T) (TO : TOK T) (i0 : 0 ≤ i ∧ i < tnh T) (j0 : 0 ≤ j ∧ j < tnh T) : WpM (d + 3) 260 [.inr (.inr t), .inl i, .inl j] h (XE (some (.inl (xb (mayB T i j)))) h) := by
  have nm := x_noticeMany (d := d + 2) TX TO
  have hn := TO.2.2.1
  have c := TX.1.2.2
  have c7 := TX.2.1.2.2.1.2.2
  have c5 := TX.2.1.1.2.2
  have hH := TX.2.2.2.1
  have hN := TX.2.2.2.2.2.1
  have n12 : (tnt T).length ≤ 12 := by
    have := TO.2.2.2.2.2.2.2.2.2.1
    omega
  clear TX TO
  refine WpM.of rfl (Wp.vc 400 [12] rfl ?_)
  refine ⟨fun cij => ?_, fun cij => ⟨⟨by decide, by decide⟩, ?_⟩⟩
  · have key : ∀ (k : Int) (g : XH), k ≤ ((tnt T).length : Int) → (0 ≤ k ∧ g = h) → Wp (d + 3) 260 12 [some (.inr (.inr t)), some (.inl i), some (.inl j), some (.inl (xb (∀ q ∈ (tnt T).take k.toNat, q.1 = i → notOf T q j))), some (.inl k)] [] g (XE (some (.inl (xb (mayB T i j)))) h) := by
      refine loopUp (G := fun k g => Wp (d + 3) 260 12 [some (.inr (.inr t)), some (.inl i), some (.inl j), some (.inl (xb (∀ q ∈ (tnt T).take k.toNat, q.1 = i → notOf T q j))), some (.inl k)] [] g (XE (some (.inl (xb (mayB T i j)))) h)) ((tnt T).length : Int) ?_ ?_
      · rintro k g ⟨k0, rfl⟩ hk ih
        have ih := ih g ⟨by omega, rfl⟩
        have hk' : k.toNat < (tnt T).length := by omega
        have et : (tnt T).take (k + 1).toNat = (tnt T).take k.toNat ++ [(tnt T)[k.toNat]] := by
          rw [show (k + 1).toNat = k.toNat + 1 by omega]
          exact List.take_succ_eq_append_getElem hk'
        have N := hN k.toNat _ (List.getElem?_eq_getElem hk')
        rw [show ((k.toNat : Nat) : Int) = k by omega] at N
        obtain ⟨q, hq⟩ : ∃ q, q = (tnt T)[k.toNat] := ⟨_, rfl⟩
        rw [← hq] at et N
        rw [et] at ih
        clear hq et hN
        have b1 : ∀ v : Int, v = xb (∀ q' ∈ (tnt T).take k.toNat ++ [q], q'.1 = i → notOf T q' j) → Wp (d + 3) 260 63 [some (.inr (.inr t)), some (.inl i), some (.inl j), some (.inl (xb (∀ q ∈ (tnt T).take k.toNat, q.1 = i → notOf T q j))), some (.inl k)] [.inl v] g (XE (some (.inl (xb (mayB T i j)))) g) := by
          intro v hv
          subst hv
          refine Wp.vc 400 [12] rfl ?_
          (repeat (refine And.intro (by first | exact trivial | exact isF (by assumption) rfl | exact isW (by assumption) rfl | exact isA (by assumption) (by omega) (by omega) | exact isB (by assumption) (by omega) (by omega) | exact isR (by assumption) (by decide) (by omega) (by omega) | (refine ⟨by omega, by omega⟩)) ?_))
          exact ih
        have gN : ∃ r cc, xty g (xar g (xfl g t 107) k) = some (r, cc, none) ∧ xhas cc 130 = true := by
          rcases N.2 with ⟨-, cc, -⟩ | ⟨-, cc, -⟩
          · exact ⟨_, _, cc.2.2, rfl⟩
          · exact ⟨_, _, cc.2.2, rfl⟩
        refine Wp.vc 400 [12, 63] rfl ?_
        refine Wp.callE (j := 0) rfl (Nat.le_of_ble_eq_true rfl) ⟨true, c⟩ nm ?_
        refine Wp.vc 400 [12, 63] rfl ?_
        rw [N.1]
        refine ⟨fun w => absurd w (by omega), fun _ => ⟨fun c0 => ?_, fun c0 => ⟨isF c rfl, isR c7 (by decide) k0 (by omega), gN, fun c1 => ?_, fun c1 => ⟨isF c rfl, isR c7 (by decide) k0 (by omega), isF c rfl, isR c5 (by decide) j0.1 (by omega), ?_⟩⟩⟩⟩
        · refine b1 0 ?_
          have c0 := xb_0.mp c0
          exact (xb_neg fun w => c0 fun q' hq' => w q' (List.mem_append_left _ hq')).symm
        · refine b1 1 ?_
          have c0 := Classical.byContradiction fun w => c0 (xb_0.mpr w)
          refine (xb_pos fun q' hq' => ?_).symm
          rcases List.mem_append.mp hq' with w | w
          · exact c0 q' w
          · have w := List.mem_singleton.mp w
            subst w
            exact fun e => absurd e c1
        · have c0 := Classical.byContradiction fun w => c0 (xb_0.mpr w)
          have c1 : q.1 = i := Decidable.of_not_not c1
          refine Wp.isOf N (hH j j0.1 j0.2) rfl rfl (Nat.le_of_ble_eq_true rfl) (fun hno => ?_) (fun hno => ?_)
          · refine Wp.vc 400 [63] rfl ?_
            refine ⟨fun w => absurd w (by decide), fun _ => b1 1 ?_⟩
            refine (xb_pos fun q' hq' => ?_).symm
            rcases List.mem_append.mp hq' with w | w
            · exact c0 q' w
            · have w := List.mem_singleton.mp w
              subst w
              exact fun _ => hno
          · refine Wp.vc 400 [63] rfl ?_
            refine ⟨fun _ => b1 0 ?_, fun w => absurd rfl w⟩
            exact (xb_neg fun w => hno (w q (by simp) c1)).symm
      · rintro g ⟨k0, rfl⟩
        refine Wp.vc 400 [12] rfl ?_
        refine Wp.callE (j := 0) rfl (Nat.le_of_ble_eq_true rfl) ⟨true, c⟩ nm ?_
        refine Wp.vc 400 [12] rfl ?_
        refine ⟨fun _ => ⟨xb_rg _, ?_⟩, fun w => absurd (Int.le_refl _) w⟩
        rw [show (((tnt T).length : Int)).toNat = (tnt T).length by omega, List.take_length]
        rw [show mayB T i j = (∀ q ∈ tnt T, q.1 = i → notOf T q j) from propext ⟨fun w => w.2, fun w => ⟨cij, w⟩⟩]
        exact XE.mk
    have k0 := key 0 h (by omega) ⟨by decide, rfl⟩
    rw [show xb (∀ q ∈ (tnt T).take (0 : Int).toNat, q.1 = i → notOf T q j) = 1 from xb_pos (fun q hq => by simp at hq)] at k0
    exact k0
  · rw [xb_neg (fun w => cij w.1)]
    exact XE.mk
