/-! WALKS, 84: the model's reader: names -/
set_option maxRecDepth 100000
set_option maxHeartbeats 4000000
theorem xwk {k : Nat} (h1 : 1 ≤ k) (h2 : k < 41) : xword (cw k) := by
  have key : ∀ k : Fin 41, 1 ≤ k.val → (1 ≤ (cw k.val).length ∧ (cw k.val).length ≤ 8 ∧ ∀ c ∈ cw k.val, 97 ≤ c ∧ c ≤ 122) := by decide +kernel
  exact key ⟨k, h2⟩ h1
def isNmo (o : Re LTk) : Prop := match o with
  | .inl l => isNm l
  | .inr _ => False
theorem kwi_yes {w : List Int} (h : kwi w = -1) : w ≠ cw 21 ∧ w ≠ cw 22 ∧ w ≠ cw 23 ∧ w ≠ cw 24 ∧ w ≠ cw 25 ∧ w ≠ cw 26 ∧ w ≠ cw 27 ∧ w ≠ cw 28 := by
  refine ⟨?_, ?_, ?_, ?_, ?_, ?_, ?_, ?_⟩ <;> (intro e; rw [e] at h; revert h; decide +kernel)
theorem m_isName {d : Nat} {K : XX} {h : XH} {o : Re LTk} (Z : MZ K h o) : WpM (d + 6) 160 [.inr (.inr (ks K))] h (XE (some (.inl (xb (isNmo o)))) h) := by
  have tm := Z.tm
  cases o with
  | inr f =>
    rw [xb_neg (show ¬ isNmo (.inr f) from fun w => w)]
    have f75 := Z.2.1.1
    refine WpM.of rfl (Wp.vc 400 [8, 44] rfl ?_)
    rw [f75]
    refine ⟨isF tm rfl, fun _ => ?_, fun w => absurd (show ¬ (5 : Int) = 2 by decide) w⟩
    refine Wp.vc 400 [] rfl ?_
    exact ⟨⟨by decide, by decide⟩, rfl, rfl⟩
  | inl l =>
    obtain ⟨f75, -⟩ := Z.2.1
    have L := Z.2.2 l rfl
    have no : ¬ isNm l → ∀ ls, Wp (d + 6) 160 44 ls [] h (XE (some (.inl (xb (isNmo (.inl l))))) h) := by
      intro w ls
      rw [xb_neg (show ¬ isNmo (.inl l) from w)]
      refine Wp.vc 400 [] rfl ?_
      exact ⟨⟨by decide, by decide⟩, rfl, rfl⟩
    have no2 : ¬ isNm l → ∀ ls, Wp (d + 6) 160 86 ls [] h (XE (some (.inl (xb (isNmo (.inl l))))) h) := by
      intro w ls
      rw [xb_neg (show ¬ isNmo (.inl l) from w)]
      refine Wp.vc 400 [] rfl ?_
      exact ⟨⟨by decide, by decide⟩, rfl, rfl⟩
    by_cases e2 : lk l = 2
    · have f75 : xfl h (ks K) 75 = 2 := by rw [f75, e2]; rfl
      refine WpM.of rfl (Wp.vc 400 [8, 44] rfl ?_)
      rw [f75]
      refine ⟨isF tm rfl, fun w => absurd rfl w, fun _ => ?_⟩
      refine Wp.vc 400 [44, 46, 86] rfl ?_
      refine Wp.callE (j := 0) rfl (Nat.le_of_ble_eq_true rfl) ⟨true, tm⟩ (m_isWord (d := d) Z (k := 21) (by decide) (xwk (by decide) (by decide))) ?_
      by_cases q1 : lw l = cw 21
      · have a := no (fun w => (kwi_yes w.2).1 q1) [some (.inr (.inr (ks K)))]
        rw [xb_pos (show isWd (.inl l) (cw 21) from ⟨e2, q1⟩)]
        refine Wp.vc 400 [44, 46, 86] rfl ?_
        exact ⟨fun _ => a, fun w => absurd (show ¬ (1 : Int) = 0 by decide) w⟩
      · rw [xb_neg (show ¬ isWd (.inl l) (cw 21) from fun w => q1 w.2)]
        refine Wp.vc 400 [44, 46, 86] rfl ?_
        refine ⟨fun w => absurd rfl w, fun _ => ?_⟩
        refine Wp.vc 400 [44, 46, 86] rfl ?_
        refine Wp.callE (j := 0) rfl (Nat.le_of_ble_eq_true rfl) ⟨true, tm⟩ (m_isWord (d := d) Z (k := 22) (by decide) (xwk (by decide) (by decide))) ?_
        by_cases q2 : lw l = cw 22
        · have a := no (fun w => (kwi_yes w.2).2.1 q2) [some (.inr (.inr (ks K)))]
          rw [xb_pos (show isWd (.inl l) (cw 22) from ⟨e2, q2⟩)]
          refine Wp.vc 400 [44, 46, 86] rfl ?_
          exact ⟨fun _ => a, fun w => absurd (show ¬ (1 : Int) = 0 by decide) w⟩
        · rw [xb_neg (show ¬ isWd (.inl l) (cw 22) from fun w => q2 w.2)]
          refine Wp.vc 400 [44, 46, 86] rfl ?_
          refine ⟨fun w => absurd rfl w, fun _ => ?_⟩
          refine Wp.vc 400 [44, 46, 86] rfl ?_
          refine Wp.callE (j := 0) rfl (Nat.le_of_ble_eq_true rfl) ⟨true, tm⟩ (m_isWord (d := d) Z (k := 23) (by decide) (xwk (by decide) (by decide))) ?_
          by_cases q3 : lw l = cw 23
          · have a := no (fun w => (kwi_yes w.2).2.2.1 q3) [some (.inr (.inr (ks K)))]
            rw [xb_pos (show isWd (.inl l) (cw 23) from ⟨e2, q3⟩)]
            refine Wp.vc 400 [44, 46, 86] rfl ?_
            exact ⟨fun _ => a, fun w => absurd (show ¬ (1 : Int) = 0 by decide) w⟩
          · rw [xb_neg (show ¬ isWd (.inl l) (cw 23) from fun w => q3 w.2)]
            refine Wp.vc 400 [44, 46, 86] rfl ?_
            refine ⟨fun w => absurd rfl w, fun _ => ?_⟩
            refine Wp.vc 400 [44, 46, 86] rfl ?_
            refine Wp.callE (j := 0) rfl (Nat.le_of_ble_eq_true rfl) ⟨true, tm⟩ (m_isWord (d := d) Z (k := 24) (by decide) (xwk (by decide) (by decide))) ?_
            by_cases q4 : lw l = cw 24
            · have a := no (fun w => (kwi_yes w.2).2.2.2.1 q4) [some (.inr (.inr (ks K)))]
              rw [xb_pos (show isWd (.inl l) (cw 24) from ⟨e2, q4⟩)]
              refine Wp.vc 400 [44, 46, 86] rfl ?_
              exact ⟨fun w => absurd w (by decide), fun _ => a⟩
            · rw [xb_neg (show ¬ isWd (.inl l) (cw 24) from fun w => q4 w.2)]
              refine Wp.vc 400 [44, 46, 86] rfl ?_
              refine ⟨fun _ => ?_, fun w => absurd rfl w⟩
              refine Wp.vc 400 [44, 46, 86] rfl ?_
              refine Wp.callE (j := 0) rfl (Nat.le_of_ble_eq_true rfl) ⟨true, tm⟩ (m_isWord (d := d) Z (k := 25) (by decide) (xwk (by decide) (by decide))) ?_
              by_cases q5 : lw l = cw 25
              · have a := no2 (fun w => (kwi_yes w.2).2.2.2.2.1 q5) [some (.inr (.inr (ks K)))]
                rw [xb_pos (show isWd (.inl l) (cw 25) from ⟨e2, q5⟩)]
                refine Wp.vc 400 [44, 46, 86] rfl ?_
                exact ⟨fun _ => a, fun w => absurd (show ¬ (1 : Int) = 0 by decide) w⟩
              · rw [xb_neg (show ¬ isWd (.inl l) (cw 25) from fun w => q5 w.2)]
                refine Wp.vc 400 [44, 46, 86] rfl ?_
                refine ⟨fun w => absurd rfl w, fun _ => ?_⟩
                refine Wp.vc 400 [44, 46, 86] rfl ?_
                refine Wp.callE (j := 0) rfl (Nat.le_of_ble_eq_true rfl) ⟨true, tm⟩ (m_isWord (d := d) Z (k := 26) (by decide) (xwk (by decide) (by decide))) ?_
                by_cases q6 : lw l = cw 26
                · have a := no2 (fun w => (kwi_yes w.2).2.2.2.2.2.1 q6) [some (.inr (.inr (ks K)))]
                  rw [xb_pos (show isWd (.inl l) (cw 26) from ⟨e2, q6⟩)]
                  refine Wp.vc 400 [44, 46, 86] rfl ?_
                  exact ⟨fun _ => a, fun w => absurd (show ¬ (1 : Int) = 0 by decide) w⟩
                · rw [xb_neg (show ¬ isWd (.inl l) (cw 26) from fun w => q6 w.2)]
                  refine Wp.vc 400 [44, 46, 86] rfl ?_
                  refine ⟨fun w => absurd rfl w, fun _ => ?_⟩
                  refine Wp.vc 400 [44, 46, 86] rfl ?_
                  refine Wp.callE (j := 0) rfl (Nat.le_of_ble_eq_true rfl) ⟨true, tm⟩ (m_isWord (d := d) Z (k := 27) (by decide) (xwk (by decide) (by decide))) ?_
                  by_cases q7 : lw l = cw 27
                  · have a := no2 (fun w => (kwi_yes w.2).2.2.2.2.2.2.1 q7) [some (.inr (.inr (ks K)))]
                    rw [xb_pos (show isWd (.inl l) (cw 27) from ⟨e2, q7⟩)]
                    refine Wp.vc 400 [44, 46, 86] rfl ?_
                    exact ⟨fun _ => a, fun w => absurd (show ¬ (1 : Int) = 0 by decide) w⟩
                  · rw [xb_neg (show ¬ isWd (.inl l) (cw 27) from fun w => q7 w.2)]
                    refine Wp.vc 400 [44, 46, 86] rfl ?_
                    refine ⟨fun w => absurd rfl w, fun _ => ?_⟩
                    refine Wp.vc 400 [44, 46, 86] rfl ?_
                    refine Wp.callE (j := 0) rfl (Nat.le_of_ble_eq_true rfl) ⟨true, tm⟩ (m_isWord (d := d) Z (k := 28) (by decide) (xwk (by decide) (by decide))) ?_
                    by_cases q8 : lw l = cw 28
                    · have a := no2 (fun w => (kwi_yes w.2).2.2.2.2.2.2.2 q8) [some (.inr (.inr (ks K)))]
                      rw [xb_pos (show isWd (.inl l) (cw 28) from ⟨e2, q8⟩)]
                      refine Wp.vc 400 [44, 46, 86] rfl ?_
                      exact ⟨fun _ => a, fun w => absurd (show ¬ (1 : Int) = 0 by decide) w⟩
                    · rw [xb_neg (show ¬ isWd (.inl l) (cw 28) from fun w => q8 w.2)]
                      rw [xb_pos (show isNmo (.inl l) from ⟨e2, kwi_no q1 q2 q3 q4 q5 q6 q7 q8⟩)]
                      refine Wp.vc 400 [44, 46, 86] rfl ?_
                      exact ⟨fun w => absurd rfl w, fun _ => ⟨⟨by decide, by decide⟩, rfl, rfl⟩⟩
    · have ne : ¬ xfl h (ks K) 75 = 2 := by
        rw [f75]
        intro w
        unfold mk_ at w
        rcases L.2.1 with k | k | k | k | k <;> rw [k] at w e2 <;> first | exact absurd w (by decide) | exact absurd rfl e2
      have a := no (fun w => e2 w.1)
      refine WpM.of rfl (Wp.vc 400 [8, 44] rfl ?_)
      exact ⟨isF tm rfl, fun _ => a _, fun w => absurd ne w⟩
/-- where the model's town has its arrays -/
def MTy (z0 : Int) (h : XH) (t : Int) : Prop := (z0 ≤ t ∧ t + 18 ≤ xsz h) ∧ xty h t = some (true, 15, none) ∧ (∀ f : Nat, 143 ≤ f → f ≤ 159 → xfl h t f = t + ((f : Int) - 142)) ∧ (∀ c : Int, (1 ≤ c ∧ c ≤ 6) → xty h (t + c) = some (true, 0, some 7)) ∧ xty h (t + 7) = some (true, 3, some 7) ∧ xty h (t + 8) = some (true, 0, some 49) ∧ (xty h (t + 9) = some (true, 0, some 4) ∧ xty h (t + 10) = some (true, 0, some 4)) ∧ xty h (t + 11) = some (true, 0, some 8) ∧ (xty h (t + 12) = some (true, 0, some 4) ∧ xty h (t + 13) = some (true, 0, some 4)) ∧ xty h (t + 14) = some (true, 3, some 8) ∧ xty h (t + 15) = some (true, 3, some 11) ∧ xty h (t + 16) = some (true, 0, some 11) ∧ xty h (t + 17) = some (true, 0, some 11)
/-- what they hold -/
def MTf (h : XH) (t : Int) (P : PT) (e : Int) : Prop := (xfl h t 133 = tsc (pT P) 0 ∧ xfl h t 134 = tsc (pT P) 1 ∧ xfl h t 135 = tsc (pT P) 2 ∧ xfl h t 137 = tsc (pT P) 3 ∧ xfl h t 138 = tsc (pT P) 4 ∧ xfl h t 139 = tsc (pT P) 5 ∧ xfl h t 140 = tsc (pT P) 6 ∧ xfl h t 141 = tsc (pT P) 7) ∧ (xfl h t 142 = ((pN P).length : Int) ∧ 0 ≤ xfl h t 136 ∧ xfl h t 136 ≤ e) ∧
  (∀ i : Int, 0 ≤ i → i < tnh (pT P) → xar h (t + 1) i = thv (pT P) 0 i ∧ xar h (t + 2) i = thv (pT P) 1 i ∧ xar h (t + 3) i = thv (pT P) 2 i ∧ xar h (t + 4) i = thv (pT P) 3 i ∧ ((thv (pT P) 9 i = 0 ∧ xar h (t + 5) i = -1) ∨ (thv (pT P) 9 i = 1 ∧ xar h (t + 5) i = thv (pT P) 4 i ∧ xar h (t + 6) i = thv (pT P) 5 i)) ∧ xar h (t + 7) i = thv (pT P) 6 i) ∧
  (∀ i j : Int, 0 ≤ i → i < 7 → 0 ≤ j → j < 7 → xar h (t + 8) (7 * i + j) = tst (pT P) i j) ∧
  (∀ i : Int, 0 ≤ i → i < tpm (pT P) → xar h (t + 9) i = thv (pT P) 7 i ∧ xar h (t + 10) i = thv (pT P) 8 i) ∧
  (∀ (k : Nat) (q : Int × Int × Int), (tsig (pT P))[k]? = some q → xar h (t + 11) (k : Int) = q.1 ∧ xar h (t + 14) (k : Int) = q.2.2) ∧
  (∀ (k : Nat) (q : Int × Int × Int), (tnoi (pT P))[k]? = some q → xar h (t + 12) (k : Int) = q.1 ∧ xar h (t + 13) (k : Int) = q.2.2) ∧
  ∀ (k : Nat) (q : List Int × Int × Int), (pN P)[k]? = some q → xar h (t + 15) (k : Int) = xpack q.1 ∧ xar h (t + 16) (k : Int) = q.2.1 ∧ xar h (t + 17) (k : Int) = q.2.2
theorem MTy.m {z0 t : Int} {h : XH} {P : PT} {e : Int} (Y : MTy z0 h t) (F : MTf h t P e) : TownM h z0 t (pT P) := by
  obtain ⟨⟨y0, y1⟩, y2, y3, y4, y7, y8, ⟨y9, y10⟩, y11, ⟨y12, y13⟩, y14, -⟩ := Y
  obtain ⟨f1, -, f2, f3, f4, f5, f6, -⟩ := F
  have c : ∀ (k : Int) ty, 0 ≤ k → k < 18 → xty h (t + k) = some ty → CellX h z0 (t + k) ty := fun k ty k0 k1 e => ⟨by omega, by omega, e⟩
  unfold TownM
  rw [y3 143 (by decide) (by decide), y3 144 (by decide) (by decide), y3 145 (by decide) (by decide), y3 147 (by decide) (by decide), y3 148 (by decide) (by decide), y3 149 (by decide) (by decide), y3 150 (by decide) (by decide), y3 151 (by decide) (by decide), y3 152 (by decide) (by decide), y3 153 (by decide) (by decide), y3 154 (by decide) (by decide), y3 155 (by decide) (by decide), y3 156 (by decide) (by decide)]
  refine ⟨⟨y0, by omega, y2⟩, ⟨⟨c 1 _ (by decide) (by decide) (y4 1 (by decide)), c 2 _ (by decide) (by decide) (y4 2 (by decide)), c 3 _ (by decide) (by decide) (y4 3 (by decide)), c 5 _ (by decide) (by decide) (y4 5 (by decide)), c 6 _ (by decide) (by decide) (y4 6 (by decide)), c 7 _ (by decide) (by decide) y7⟩, c 8 _ (by decide) (by decide) y8, c 9 _ (by decide) (by decide) y9, c 10 _ (by decide) (by decide) y10, c 11 _ (by decide) (by decide) y11, c 12 _ (by decide) (by decide) y12, c 13 _ (by decide) (by decide) y13, c 14 _ (by decide) (by decide) y14⟩, f1, fun i i0 i1 => ?_, f4, f5, f6, f3⟩
  obtain ⟨a, b, c, d, e, f⟩ := f2 i i0 i1
  exact ⟨a, b, c, e, f⟩
theorem MTy.keep {z0 t : Int} {h g : XH} (p : Above z0 h g) (Y : MTy z0 h t) : MTy z0 g t := by
  obtain ⟨⟨y0, y1⟩, y2, y3, y4, y7, y8, ⟨y9, y10⟩, y11, ⟨y12, y13⟩, y14, y15, y16, y17⟩ := Y
  have p1 := p.1
  have ty : ∀ c : Int, 0 ≤ c → c < 18 → xty g (t + c) = xty h (t + c) := fun c c0 c1 => (p.2 _ (by omega) (by omega)).1
  have t0 : xty g t = xty h t := (p.2 _ (by omega) (by omega)).1
  have fl : ∀ f : Nat, f < 160 → xfl g t f = xfl h t f := fun f hf => (p.2 t (by omega) (by omega)).2.1 f (by omega) (by omega)
  exact ⟨⟨y0, by omega⟩, t0.trans y2, fun f f0 f1 => (fl f (by omega)).trans (y3 f f0 f1), fun c hc => (ty c (by omega) (by omega)).trans (y4 c hc), (ty 7 (by decide) (by decide)).trans y7, (ty 8 (by decide) (by decide)).trans y8, ⟨(ty 9 (by decide) (by decide)).trans y9, (ty 10 (by decide) (by decide)).trans y10⟩, (ty 11 (by decide) (by decide)).trans y11, ⟨(ty 12 (by decide) (by decide)).trans y12, (ty 13 (by decide) (by decide)).trans y13⟩, (ty 14 (by decide) (by decide)).trans y14, (ty 15 (by decide) (by decide)).trans y15, (ty 16 (by decide) (by decide)).trans y16, (ty 17 (by decide) (by decide)).trans y17⟩
theorem MTf.keep {z0 t e : Int} {h g : XH} {P : PT} (p : Above z0 h g) (Y : MTy z0 h t) (F : MTf h t P e) : MTf g t P e := by
  obtain ⟨⟨y0, y1⟩, -⟩ := Y
  have fl : ∀ f : Nat, f < 160 → xfl g t f = xfl h t f := fun f hf => (p.2 t (by omega) (by omega)).2.1 f (by omega) (by omega)
  have ar : ∀ c : Int, 0 ≤ c → c < 18 → ∀ i, xar g (t + c) i = xar h (t + c) i := fun c c0 c1 i => (p.2 _ (by omega) (by omega)).2.2 i
  unfold MTf
  rw [fl 133 (by decide), fl 134 (by decide), fl 135 (by decide), fl 136 (by decide), fl 137 (by decide), fl 138 (by decide), fl 139 (by decide), fl 140 (by decide), fl 141 (by decide), fl 142 (by decide)]
  simp only [ar 1 (by decide) (by decide), ar 2 (by decide) (by decide), ar 3 (by decide) (by decide), ar 4 (by decide) (by decide), ar 5 (by decide) (by decide), ar 6 (by decide) (by decide), ar 7 (by decide) (by decide), ar 8 (by decide) (by decide), ar 9 (by decide) (by decide), ar 10 (by decide) (by decide), ar 11 (by decide) (by decide), ar 12 (by decide) (by decide), ar 13 (by decide) (by decide), ar 14 (by decide) (by decide), ar 15 (by decide) (by decide), ar 16 (by decide) (by decide), ar 17 (by decide) (by decide)]
  exact F
theorem FrM.above {m z0 : Int} {h g : XH} (p : FrM m h g) (hm : m < z0) : Above z0 h g := Above.of p.1 (fun z f hz _ _ w => by omega) (fun _ _ w => w)
/-- the town that is read, in the model -/
def MRt (K : XX) (h : XH) (P : PT) (e : Int) : Prop := MTy (kz K) h (xfl h (ks K) 70) ∧ MTf h (xfl h (ks K) 70) P e
theorem MRt.keep {K : XX} {h g : XH} {P : PT} {e : Int} {o : Re LTk} (p : FrM (ks K) h g) (Z : MZ K h o) (R : MRt K h P e) : MRt K g P e := by
  have zz := Z.1.1
  have a := p.above (z0 := kz K) (by omega)
  unfold MRt
  rw [p.1.2.2.2.1 (ks K) 70 (by omega) (fun w => by omega)]
  exact ⟨R.1.keep a, R.2.keep a R.1⟩
