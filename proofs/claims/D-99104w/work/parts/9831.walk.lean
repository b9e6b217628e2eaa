/-! WALKS, 70: WrongRoom's reader: houses told -/
set_option maxRecDepth 100000
set_option maxHeartbeats 4000000
def PO (P : PT) : Prop := NI P ∧ (0 ≤ tnh (pT P) ∧ tnh (pT P) ≤ 7) ∧ (0 ≤ tpm (pT P) ∧ tpm (pT P) ≤ 4)
theorem x_newName {d : Nat} {K : XX} {c : Int} {h : XH} {l : LTk} {P : PT} (R : XZ K c h l) (X : XRt K h P) (O : PO P) : WpM (d + 6) 88 [.inr (.inr (ks K + 2))] h (XEn K c (rFresh (kt K) (kn K) P l) (fun q v h' => (∃ a, v = some (.inr (.inr a)) ∧ StrX h' (kz K) a q.1 ∧ xword q.1) ∧ XZ K c h' q.2 ∧ FrL (ks K) (kz K) h h')) := by
  refine WpM.of rfl (Wp.vc 400 [] rfl ?_)
  refine XEn.bind (k := fun _ => if pFind P (lw l) = none then .inl (lw l, ga (kt K) (kn K) l) else .inr (3, la l)) (j := 0) rfl (Nat.le_of_ble_eq_true rfl) ⟨true, R.tr⟩ (x_mustName (d := d) R) rfl (by unfold rFresh; split <;> rfl) (fun _ v h1 e q => ?_)
  have nm : isNm l := by
    by_cases z : isNm l
    · exact z
    · rw [if_neg z] at e
      cases e
  obtain ⟨rfl, R1, p1⟩ := q
  have X1 := X.keep p1 R.c.1 O.1
  obtain ⟨w1, w2, -, w4⟩ := R1.word nm.1
  have fd := x_find (d := d + 3) X1.1 O.1 O.2.1.symm O.2.2.symm w1
  have tr := R1.tr
  have ct := X1.1.1.1.2.2
  have zz := R1.c.1
  refine Wp.vc 400 [24] rfl ?_
  refine ⟨isF tr rfl, isF tr rfl, ?_⟩
  refine Wp.callR (j := 0) rfl (Nat.le_of_ble_eq_true rfl) ⟨true, ct⟩ fd (fun v h2 q => ?_)
  obtain ⟨rfl, q⟩ := q
  have no : pFind P (lw l) ≠ none → Wp (d + 6) 88 18 [some (.inr (.inr (ks K + 2))), none] [] h2 (XEn K c (if pFind P (lw l) = none then .inl (lw l, ga (kt K) (kn K) l) else .inr (3, la l)) (fun q v h' => (∃ a, v = some (.inr (.inr a)) ∧ StrX h' (kz K) a q.1 ∧ xword q.1) ∧ XZ K c h' q.2 ∧ FrL (ks K) (kz K) h h')) := by
    intro z
    rw [if_neg z]
    refine Wp.vc 400 [] rfl ?_
    exact R1.failK rfl rfl (Nat.le_of_ble_eq_true rfl) rfl rfl
  rcases q with ⟨z, rfl⟩ | ⟨i, z, i0, rfl⟩ | ⟨i, z, i0, rfl⟩
  · rw [if_pos z]
    refine Wp.vc 400 [24] rfl ?_
    refine ⟨fun _ => ?_, fun q => absurd rfl q⟩
    refine Wp.vc 400 [] rfl ?_
    refine ⟨isF tr rfl, ?_⟩
    refine R1.nextK rfl (Nat.le_of_ble_eq_true rfl) (fun h3 R3 p3 => ?_)
    refine Wp.vc 400 [] rfl ?_
    exact ⟨trivial, XEn.ret rfl ⟨⟨_, rfl, w2.keep (p3.above zz.2.1), w4⟩, R3, p1.trans p3⟩⟩
  · have b := (X1.1.1.2.2.2.1 i i0.1 i0.2).1.1
    have n := no (by rw [z]; exact fun q => by cases q)
    refine Wp.vc 400 [24, 18] rfl ?_
    exact ⟨fun q => by omega, fun _ => n⟩
  · have b := (X1.1.1.2.2.2.2.1 i i0.1 i0.2).1.1
    have n := no (by rw [z]; exact fun q => by cases q)
    refine Wp.vc 400 [24, 18] rfl ?_
    exact ⟨fun q => by omega, fun _ => n⟩
/-- house i in the heap -/
def hou (K : XX) (h : XH) (i : Int) : Int := xar h (xfl h (xfl h (ks K + 2) 30) 105) i
theorem rHere_eq {P : PT} {l : LTk} : rHere P l = rb (if isNm l then (.inl () : Re Unit) else .inr (1, la l)) (fun _ => match pFind P (lw l) with
  | some (_, 0, i) => .inl (i, l)
  | _ => .inr (2, la l)) := by
  unfold rHere
  split <;> rfl
theorem x_houseHere {d : Nat} {K : XX} {c : Int} {h : XH} {l : LTk} {P : PT} (R : XZ K c h l) (X : XRt K h P) (O : PO P) : WpM (d + 6) 92 [.inr (.inr (ks K + 2))] h (XEn K c (rHere P l) (fun q v h' => (v = some (.inr (.inr (hou K h' q.1))) ∧ q.2 = l ∧ 0 ≤ q.1 ∧ q.1 < tnh (pT P)) ∧ XZ K c h' l ∧ FrL (ks K) (kz K) h h')) := by
  rw [rHere_eq]
  refine WpM.of rfl (Wp.vc 400 [] rfl ?_)
  refine XEn.bind (j := 0) rfl (Nat.le_of_ble_eq_true rfl) ⟨true, R.tr⟩ (x_mustName (d := d) R) rfl rfl (fun _ v h1 e q => ?_)
  have nm : isNm l := by
    by_cases z : isNm l
    · exact z
    · rw [if_neg z] at e
      cases e
  obtain ⟨rfl, R1, p1⟩ := q
  have X1 := X.keep p1 R.c.1 O.1
  obtain ⟨w1, w2, -, w4⟩ := R1.word nm.1
  have fd := x_find (d := d + 3) X1.1 O.1 O.2.1.symm O.2.2.symm w1
  have tr := R1.tr
  have ct := X1.1.1.1.2.2
  have zz := R1.c.1
  refine Wp.vc 400 [29, 23] rfl ?_
  refine ⟨isF tr rfl, isF tr rfl, ?_⟩
  refine Wp.callR (j := 0) rfl (Nat.le_of_ble_eq_true rfl) ⟨true, ct⟩ fd (fun v h2 q => ?_)
  obtain ⟨rfl, q⟩ := q
  have no : ∀ a, (∀ w i, pFind P (lw l) ≠ some (w, 0, i)) → Wp (d + 6) 92 23 [some (.inr (.inr (ks K + 2))), some (.inr (.inr a))] [] h2 (XEn K c (match pFind P (lw l) with
  | some (_, 0, i) => .inl (i, l)
  | _ => .inr (2, la l)) (fun q v h' => (v = some (.inr (.inr (hou K h' q.1))) ∧ q.2 = l ∧ 0 ≤ q.1 ∧ q.1 < tnh (pT P)) ∧ XZ K c h' l ∧ FrL (ks K) (kz K) h h')) := by
    intro a z
    have e : (match pFind P (lw l) with
      | some (_, 0, i) => (.inl (i, l) : Re (Int × LTk))
      | _ => .inr (2, la l)) = .inr (2, la l) := by
      split
      · next w i q => exact absurd q (z w i)
      · rfl
    rw [e]
    refine Wp.vc 400 [] rfl ?_
    exact R1.failK rfl rfl (Nat.le_of_ble_eq_true rfl) rfl rfl
  rcases q with ⟨z, rfl⟩ | ⟨i, z, i0, rfl⟩ | ⟨i, z, i0, rfl⟩
  · have n := no 0 (fun w i q => by rw [z] at q; cases q)
    refine Wp.vc 400 [29, 23] rfl ?_
    rw [X1.2.2]
    exact ⟨Or.inl rfl, fun q => absurd rfl q, fun _ => n⟩
  · have th := (X1.1.1.2.2.2.1 i i0.1 i0.2).1.2.2
    rw [z]
    refine Wp.vc 400 [29, 23] rfl ?_
    rw [th]
    refine ⟨Or.inr ⟨_, _, rfl, rfl⟩, fun _ => ?_, fun q => absurd (show ¬ (1 : Int) = 0 by decide) q⟩
    refine Wp.vc 400 [] rfl ?_
    exact ⟨⟨_, _, th, rfl⟩, trivial, XEn.ret rfl ⟨⟨rfl, rfl, i0.1, i0.2⟩, R1, p1⟩⟩
  · have th := (X1.1.1.2.2.2.2.1 i i0.1 i0.2).1.2.2
    have n := no (xar h2 (xfl h2 (xfl h2 (ks K + 2) 30) 106) i) (fun w i q => by rw [z] at q; cases q)
    refine Wp.vc 400 [29, 23] rfl ?_
    rw [th]
    exact ⟨Or.inr ⟨_, _, rfl, rfl⟩, fun q => absurd rfl q, fun _ => n⟩
theorem hou_keep {K : XX} {h g : XH} {P : PT} {i : Int} (p : FrL (ks K) (kz K) h g) (hz : 1 ≤ ks K ∧ ks K + 126 ≤ kz K ∧ kz K ≤ xsz h) (X : XRt K h P) : hou K g i = hou K h i := by
  have A := p.above hz.2.1
  have T := X.1.1
  unfold hou
  rw [p.f3 hz (by decide), T.1.fl A 105 (by decide) (by decide), T.2.1.1.ar A]
theorem x_house {d : Nat} {K : XX} {c : Int} {h : XH} {l : LTk} {P : PT} (R : XZ K c h l) (X : XRt K h P) (O : PO P) : WpM (d + 7) 95 [.inr (.inr (ks K + 2))] h (XEn K c (rHouse (kt K) (kn K) P l) (fun q v h' => (v = some (.inr (.inr (hou K h' q.1))) ∧ 0 ≤ q.1 ∧ q.1 < tnh (pT P)) ∧ XZ K c h' q.2 ∧ FrL (ks K) (kz K) h h')) := by
  unfold rHouse
  refine WpM.of rfl (Wp.vc 400 [] rfl ?_)
  refine XEn.bind (j := 0) rfl (Nat.le_of_ble_eq_true rfl) ⟨true, R.tr⟩ (x_houseHere (d := d) R X O) rfl rfl (fun q v h1 e q1 => ?_)
  obtain ⟨⟨rfl, e2, i0, i1⟩, R1, p1⟩ := q1
  have X1 := X.keep p1 R.c.1 O.1
  refine Wp.vc 400 [] rfl ?_
  refine R1.nextK rfl (Nat.le_of_ble_eq_true rfl) (fun h3 R3 p3 => ?_)
  rw [← hou_keep p3 R1.c.1 X1]
  rw [← e2] at R3
  refine Wp.vc 400 [] rfl ?_
  exact ⟨trivial, XEn.ret rfl ⟨⟨rfl, i0, i1⟩, R3, p1.trans p3⟩⟩
theorem x_begins {d : Nat} {K : XX} {c z : Int} {h : XH} {l : LTk} {P : PT} {can : Prop} [Decidable can] (R : XZ K c h l) (X : XRt K h P) (hz : z = if can then 1 else 0) : WpM (d + 5) 87 [.inr (.inr (ks K + 2)), .inl z] h (XEn K c (rBegins (kt K) (kn K) can (pT P) l) (fun l' v h' => v = none ∧ XZ K c h' l' ∧ FrL (ks K) (kz K) h h')) := by
  have tr := R.tr
  have f31 := X.2.1
  subst hz
  unfold rBegins
  by_cases w : can
  · rw [if_pos w, if_pos w]
    refine WpM.of rfl (Wp.vc 400 [] rfl ?_)
    rw [f31]
    refine ⟨fun _ => ⟨isF tr rfl, fun q => ?_, fun q => ?_⟩, fun q => absurd (show ¬ (1 : Int) = 0 by decide) q⟩
    · rw [if_neg (fun e => q (if_pos e))]
      refine R.nextK rfl (Nat.le_of_ble_eq_true rfl) (fun h3 R3 p3 => ?_)
      refine Wp.vc 400 [] rfl ?_
      exact ⟨trivial, XEn.ret rfl ⟨rfl, R3, p3⟩⟩
    · have q : tsc (pT P) 0 = 0 := by
        by_cases e : tsc (pT P) 0 = 0
        · exact e
        · rw [if_neg e] at q
          exact absurd (show ¬ (1 : Int) = 0 by decide) q
      rw [if_pos q]
      exact R.failK rfl rfl (Nat.le_of_ble_eq_true rfl) rfl rfl
  · rw [if_neg w, if_neg w]
    refine WpM.of rfl (Wp.vc 400 [] rfl ?_)
    refine ⟨fun q => absurd rfl q, fun _ => ?_⟩
    exact R.failK rfl rfl (Nat.le_of_ble_eq_true rfl) rfl rfl
