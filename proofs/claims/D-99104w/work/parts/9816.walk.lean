/-! WALKS, 55: ways by streets and walks -/
set_option maxRecDepth 100000
set_option maxHeartbeats 4000000
theorem wst_str {T : XTw} {V : Int → Int} {i j t : Int} : wst T V false i j t = if 0 < tst T i j then some (t + tst T i j) else none := if_neg (fun w => by cases w.1)
theorem wkl_nn {T : XTw} : ∀ {l : List Int} {a c : Int}, wkl T a l = some c → 0 ≤ c
  | [], a, c, h => by cases h; exact Int.le_refl _
  | b :: l, a, c, h => by
    unfold wkl at h
    split at h
    · rename_i p
      cases e : wkl T b l with
      | none => rw [e] at h; cases h
      | some c1 =>
        rw [e] at h
        cases h
        have := wkl_nn e
        show 0 ≤ tst T a b + c1
        omega
    · cases h
theorem wkl_cons {T : XTw} {l : List Int} {a b c : Int} (h : wkl T a (b :: l) = some c) : 0 < tst T a b ∧ ∃ c1, wkl T b l = some c1 ∧ c = tst T a b + c1 := by
  unfold wkl at h
  split at h
  · rename_i p
    cases e : wkl T b l with
    | none => rw [e] at h; cases h
    | some c1 =>
      rw [e] at h
      cases h
      exact ⟨p, c1, rfl, rfl⟩
  · cases h
theorem wkl_mk {T : XTw} {l : List Int} {a b c1 : Int} (p : 0 < tst T a b) (h : wkl T b l = some c1) : wkl T a (b :: l) = some (tst T a b + c1) := by
  unfold wkl
  rw [if_pos p, h]
  rfl
/-- each way is a walk -/
theorem wys_walk {T : XTw} {V : Int → Int} {g : Int} : ∀ (f : Nat) (u a t : Int) (w : Int × List Int), w ∈ wys T V false g f u a t → ∃ l, w.2 = a :: l ∧ (∀ x ∈ l, 0 ≤ x ∧ x < tnh T) ∧ (a :: l).getLast (List.cons_ne_nil _ _) = g ∧ wkl T a l = some (w.1 - t)
  | 0, u, a, t, w, h => by cases h
  | f + 1, u, a, t, w, h => by
    by_cases e : a = g
    · rw [e, wys_at] at h
      have h := List.mem_singleton.mp h
      subst h
      exact ⟨[], by rw [e], fun x hx => absurd hx List.not_mem_nil, e, by show some (0 : Int) = some (t - t); rw [Int.sub_self]⟩
    · rw [wys_st e] at h
      obtain ⟨w', h1, rfl⟩ := List.mem_map.mp h
      obtain ⟨j, hj, h2⟩ := List.mem_flatMap.mp h1
      have hj := nds_mem.mp hj
      unfold wkid at h2
      split at h2
      · cases h2
      · rw [wst_str] at h2
        split at h2
        · cases h2
        · rename_i v hv
          split at hv
          · rename_i p
            cases hv
            obtain ⟨l, q1, q2, q3, q4⟩ := wys_walk f _ j _ w' h2
            refine ⟨j :: l, by show a :: w'.2 = _; rw [q1], fun x hx => ?_, (List.getLast_cons (List.cons_ne_nil _ _)).trans q3, ?_⟩
            · rcases List.mem_cons.mp hx with rfl | hx
              · exact hj
              · exact q2 x hx
            · rw [wkl_mk p q4]
              congr 1
              show tst T a j + (w'.1 - (t + tst T a j)) = w'.1 - t
              omega
          · cases hv
/-- each simple walk is a way -/
theorem walk_wys {T : XTw} {V : Int → Int} {g : Int} (TO : TOK T) : ∀ (f : Nat) (u k a t c : Int) (l : List Int), l.length < f → MskOK u (tnh T) k → (∀ x ∈ l, ¬ xbit u x) → (∀ x ∈ l, 0 ≤ x ∧ x < tnh T) → (a :: l).Nodup → (a :: l).getLast (List.cons_ne_nil _ _) = g → wkl T a l = some c → (t + c, a :: l) ∈ wys T V false g f u a t
  | 0, u, k, a, t, c, l, h, _, _, _, _, _, _ => absurd h (Nat.not_lt_zero _)
  | f + 1, u, k, a, t, c, [], h, M, hu, hr, nd, hl, hc => by
    have hl : a = g := hl
    cases hc
    rw [hl, wys_at, Int.add_zero]
    exact List.mem_singleton.mpr rfl
  | f + 1, u, k, a, t, c, b :: l, h, M, hu, hr, nd, hl, hc => by
    have hn := TO.2.2.1
    obtain ⟨p, c1, h1, rfl⟩ := wkl_cons hc
    have hb := hr b List.mem_cons_self
    have nub := hu b List.mem_cons_self
    have hl' : (b :: l).getLast (List.cons_ne_nil _ _) = g := (List.getLast_cons (List.cons_ne_nil _ _)).symm.trans hl
    have nd1 := List.nodup_cons.mp nd
    have nd2 := List.nodup_cons.mp nd1.2
    have ne : a ≠ g := fun e => nd1.1 (by rw [e, ← hl']; exact List.getLast_mem _)
    rw [wys_st ne]
    have ih := walk_wys (V := V) (g := g) TO f (u + 2 ^ b.toNat) (k + 1) b (t + tst T a b) c1 l (by rw [List.length_cons] at h; omega) (M.add hb.1 hb.2 nub).1 (fun x hx w => by
      have hx' := hr x (List.mem_cons_of_mem _ hx)
      have := M.rg
      rcases (bit_add ⟨M.2.1, by omega⟩ ⟨hb.1, by omega⟩ ⟨hx'.1, by omega⟩ nub).mp w with e | e
      · exact nd2.1 (e ▸ hx)
      · exact hu x (List.mem_cons_of_mem _ hx) e) (fun x hx => hr x (List.mem_cons_of_mem _ hx)) nd1.2 hl' h1
    refine List.mem_map.mpr ⟨(t + tst T a b + c1, b :: l), List.mem_flatMap.mpr ⟨b, nds_mem.mpr hb, ?_⟩, by rw [Int.add_assoc]⟩
    unfold wkid
    rw [if_neg nub, wst_str, if_pos p]
    exact ih
theorem wkl_suf {T : XTw} {a : Int} {t : List Int} : ∀ (s : List Int) (x c : Int), wkl T x (s ++ a :: t) = some c → ∃ c2, wkl T a t = some c2 ∧ c2 ≤ c
  | [], x, c, h => by
    obtain ⟨p, c1, h1, rfl⟩ := wkl_cons h
    exact ⟨c1, h1, by omega⟩
  | y :: s, x, c, h => by
    obtain ⟨p, c1, h1, rfl⟩ := wkl_cons h
    obtain ⟨c2, h2, h3⟩ := wkl_suf s y c1 h1
    exact ⟨c2, h2, by omega⟩
/-- a walk has a simple one in it that is no longer -/
theorem walk_simple {T : XTw} : ∀ (n : Nat) (a c : Int) (l : List Int), l.length ≤ n → wkl T a l = some c → ∃ l' c', (∀ x ∈ l', x ∈ l) ∧ (a :: l').Nodup ∧ (a :: l').getLast (List.cons_ne_nil _ _) = (a :: l).getLast (List.cons_ne_nil _ _) ∧ wkl T a l' = some c' ∧ c' ≤ c
  | n, a, c, [], hn, h => ⟨[], c, fun _ h => h, List.nodup_cons.mpr ⟨List.not_mem_nil, List.nodup_nil⟩, rfl, h, Int.le_refl _⟩
  | 0, a, c, b :: l, hn, h => absurd hn (by rw [List.length_cons]; omega)
  | n + 1, a, c, b :: l, hn, h => by
    rw [List.length_cons] at hn
    by_cases ha : a ∈ b :: l
    · obtain ⟨s, t, e⟩ := List.append_of_mem ha
      rw [e] at h
      obtain ⟨c2, h2, h3⟩ := wkl_suf s a c h
      have tl : t.length ≤ n := by
        have := congrArg List.length e
        rw [List.length_cons, List.length_append, List.length_cons] at this
        omega
      obtain ⟨l', c', q1, q2, q3, q4, q5⟩ := walk_simple n a c2 t tl h2
      refine ⟨l', c', fun x hx => by rw [e]; exact List.mem_append_right _ (List.mem_cons_of_mem _ (q1 x hx)), q2, ?_, q4, by omega⟩
      rw [q3, List.getLast_cons (a := a) (l := b :: l) (List.cons_ne_nil _ _)]
      have : ∀ (l1 l2 : List Int) (n1 : l1 ≠ []) (n2 : l2 ≠ []), l1 = l2 → l1.getLast n1 = l2.getLast n2 := fun l1 l2 n1 n2 e => by subst e; rfl
      rw [this (b :: l) (s ++ a :: t) (List.cons_ne_nil _ _) (by simp) e, List.getLast_append_of_ne_nil _ (List.cons_ne_nil _ _)]
    · obtain ⟨p, c1, h1, rfl⟩ := wkl_cons h
      obtain ⟨l', c', q1, q2, q3, q4, q5⟩ := walk_simple n b c1 l (by omega) h1
      have sub : ∀ x ∈ b :: l', x ∈ b :: l := fun x hx => by
        rcases List.mem_cons.mp hx with rfl | hx
        · exact List.mem_cons_self
        · exact List.mem_cons_of_mem _ (q1 x hx)
      exact ⟨b :: l', tst T a b + c', sub, List.nodup_cons.mpr ⟨fun w => ha (sub a w), q2⟩, (List.getLast_cons (List.cons_ne_nil _ _)).trans (q3.trans (List.getLast_cons (List.cons_ne_nil _ _)).symm), wkl_mk p q4, by omega⟩
theorem nodup_len : ∀ (n : Nat) (l : List Int), l.Nodup → (∀ x ∈ l, 0 ≤ x ∧ x < (n : Int)) → l.length ≤ n
  | 0, l, nd, hr => by
    cases l with
    | nil => exact Nat.le_refl _
    | cons a l => have := hr a List.mem_cons_self; omega
  | n + 1, l, nd, hr => by
    have ih := nodup_len n (l.erase (n : Int)) (nd.erase _) (fun x hx => by
      have h1 := nd.mem_erase_iff.mp hx
      have h2 := hr x h1.2
      have h3 := h1.1
      omega)
    have := List.length_erase (a := (n : Int)) (l := l)
    split at this <;> omega
theorem xbit_0 {k : Int} : ¬ xbit 0 k := by
  unfold xbit
  rw [Int.zero_ediv]
  decide
theorem wbO_min : ∀ (l : List (Int × List Int)) (acc : Option (Int × List Int)), (∀ x, acc = some x → ∃ y, l.foldl wbO acc = some y ∧ y.1 ≤ x.1) ∧ ∀ w ∈ l, ∃ y, l.foldl wbO acc = some y ∧ y.1 ≤ w.1
  | [], acc => ⟨fun x e => ⟨x, e, Int.le_refl _⟩, fun w h => absurd h List.not_mem_nil⟩
  | v :: l, acc => by
    have key : ∃ z, wbO acc v = some z ∧ z.1 ≤ v.1 ∧ ∀ x, acc = some x → z.1 ≤ x.1 := by
      cases acc with
      | none => exact ⟨v, rfl, Int.le_refl _, fun x e => by cases e⟩
      | some a =>
        by_cases c : v.1 < a.1
        · exact ⟨v, if_pos c, Int.le_refl _, fun x e => by cases e; omega⟩
        · exact ⟨a, if_neg c, by omega, fun x e => by cases e; exact Int.le_refl _⟩
    obtain ⟨z, z1, z2, z3⟩ := key
    obtain ⟨ih1, ih2⟩ := wbO_min l (wbO acc v)
    obtain ⟨y, y1, y2⟩ := ih1 z z1
    refine ⟨fun x e => ⟨y, y1, by have := z3 x e; omega⟩, fun w hw => ?_⟩
    rcases List.mem_cons.mp hw with rfl | hw
    · exact ⟨y, y1, by omega⟩
    · exact ih2 w hw
/-- the soonest way and the shortest walk -/
theorem wmin_reach {T : XTw} {V : Int → Int} {i j M : Int} (TO : TOK T) (i0 : 0 ≤ i ∧ i < tnh T) : (0 ≤ wmin T V false i j 0 ∧ wmin T V false i j 0 ≤ M) ↔ wreach T i j M := by
  have hn := TO.2.2.1
  constructor
  · rintro ⟨h0, h1⟩
    unfold wmin at h0 h1
    cases e : wbest T V false i j 0 with
    | none => rw [e] at h0; exact absurd h0 (by decide)
    | some a =>
      rw [e] at h1
      have h1 : a.1 - 0 ≤ M := h1
      rcases wbO_mem _ _ _ e with q | q
      · cases q
      · obtain ⟨l, -, q2, q3, q4⟩ := wys_walk _ _ _ _ _ q
        exact ⟨l, _, q2, q3, q4, h1⟩
  · rintro ⟨l, c, hr, hl, hc, hM⟩
    obtain ⟨l', c', q1, q2, q3, q4, q5⟩ := walk_simple l.length i c l (Nat.le_refl _) hc
    have nd := List.nodup_cons.mp q2
    have len : (i :: l').length ≤ 7 := nodup_len 7 _ q2 (fun x hx => by
      rcases List.mem_cons.mp hx with rfl | hx
      · omega
      · have := hr x (q1 x hx)
        omega)
    have M1 : MskOK (1 * 2 ^ i.toNat) (tnh T) 1 := MskOK.one ⟨by omega, by omega⟩ i0.1 i0.2
    have way := walk_wys (V := V) (g := j) TO 7 (1 * 2 ^ i.toNat) 1 i 0 c' l' (by rw [List.length_cons] at len; omega) M1 (fun x hx w => by
      have hx' := hr x (q1 x hx)
      have z : ¬ xbit 0 i := xbit_0
      rw [Int.one_mul, show (2 : Int) ^ i.toNat = 0 + 2 ^ i.toNat from (Int.zero_add _).symm] at w
      rcases (bit_add ⟨Int.le_refl _, by decide⟩ ⟨i0.1, by omega⟩ ⟨hx'.1, by omega⟩ z).mp w with e | e
      · exact nd.1 (e ▸ hx)
      · exact xbit_0 e) (fun x hx => hr x (q1 x hx)) q2 (q3.trans hl) q4
    obtain ⟨y, y1, y2⟩ := (wbO_min _ none).2 _ way
    have y1 : wbest T V false i j 0 = some y := y1
    have nn := wkl_nn q4
    unfold wmin
    rw [y1]
    have y2 : y.1 ≤ 0 + c' := y2
    show 0 ≤ y.1 - 0 ∧ y.1 - 0 ≤ M
    rcases wbO_mem _ _ _ y1 with q | q
    · cases q
    · obtain ⟨l2, -, -, -, w4⟩ := wys_walk _ _ _ _ _ q
      have := wkl_nn w4
      omega
