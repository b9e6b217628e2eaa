/-! WALKS, 74: a line that is read keeps what holds -/
set_option maxRecDepth 100000
set_option maxHeartbeats 4000000
theorem rb_inv {α β : Type} {r : Re α} {k : α → Re β} {b : β} (h : rb r k = .inl b) : ∃ a, r = .inl a ∧ k a = .inl b := by
  cases r with
  | inl a => exact ⟨a, rfl, h⟩
  | inr f => cases h
section
variable {tp : List Int} {n : Int}
def Adv (n : Int) (l l' : LTk) : Prop := LOK n l' ∧ le_ l ≤ le_ l'
theorem ga_adv {l : LTk} (L : LOK n l) : Adv n l (ga tp n l) := by
  have l1 := L.1
  have h := nxt_ok (tp := tp) (n := n) (e := le_ l) ⟨by omega, by omega⟩
  have h1 := h.1.1
  exact ⟨h.1, by show le_ l ≤ le_ (nxt tp n (le_ l)); omega⟩
theorem Adv.trans {l l' l'' : LTk} (a : Adv n l l') (b : Adv n l' l'') : Adv n l l'' := ⟨b.1, Int.le_trans a.2 b.2⟩
theorem ga_lt {l : LTk} (L : LOK n l) (k : lk (ga tp n l) ≠ 0) : le_ l < le_ (ga tp n l) := by
  have l1 := L.1
  have h := nxt_ok (tp := tp) (n := n) (e := le_ l) ⟨by omega, by omega⟩
  have := h.1.2.2.1 k
  show le_ l < le_ (nxt tp n (le_ l))
  have h2 : la (nxt tp n (le_ l)) < le_ (nxt tp n (le_ l)) := this
  omega
theorem rMust_inv {w : List Int} {l l' : LTk} (h : rMust tp n w l = .inl l') : (lk l = 2 ∧ lw l = w) ∧ l' = ga tp n l := by
  unfold rMust at h
  split at h
  · next c => exact ⟨c, by cases h; rfl⟩
  · cases h
theorem rNum_inv {lo hi : Int} {l : LTk} {q : Int × LTk} (h : rNum tp n lo hi l = .inl q) : lk l = 3 ∧ (lo ≤ q.1 ∧ q.1 ≤ hi) ∧ q = (lv l, ga tp n l) := by
  unfold rNum at h
  split at h
  · cases h
  · next c =>
    split at h
    · next d =>
      cases h
      exact ⟨Decidable.of_not_not c, d, rfl⟩
    · cases h
theorem rAft_inv {w : List Int} {lo hi : Int} {l : LTk} {q : Int × LTk} (h : rAft tp n w lo hi l = .inl q) (L : LOK n l) : lk l = 2 ∧ (lo ≤ q.1 ∧ q.1 ≤ hi) ∧ Adv n l q.2 := by
  obtain ⟨a, h1, h2⟩ := rb_inv h
  obtain ⟨c, rfl⟩ := rMust_inv h1
  obtain ⟨d, e, rfl⟩ := rNum_inv h2
  have a1 := ga_adv (tp := tp) L
  exact ⟨c.1, e, a1.trans (ga_adv a1.1)⟩
theorem rWord_inv {l : LTk} {q : List Int × LTk} (h : rWord tp n l = .inl q) (L : LOK n l) : lk l = 2 ∧ xword q.1 ∧ Adv n l q.2 := by
  unfold rWord at h
  split at h
  · next c =>
    cases h
    exact ⟨c, (L.2.2.2.1 c).1, ga_adv L⟩
  · cases h
theorem rFresh_inv {P : PT} {l : LTk} {q : List Int × LTk} (h : rFresh tp n P l = .inl q) (L : LOK n l) : lk l = 2 ∧ xword q.1 ∧ pFind P q.1 = none ∧ Adv n l q.2 := by
  unfold rFresh at h
  split at h
  · next c =>
    split at h
    · next d =>
      cases h
      exact ⟨c.1, (L.2.2.2.1 c.1).1, d, ga_adv L⟩
    · cases h
  · cases h
theorem rHere_inv {P : PT} {l : LTk} {q : Int × LTk} (h : rHere P l = .inl q) (N : NI P) : lk l = 2 ∧ q.2 = l ∧ 0 ≤ q.1 ∧ q.1 < tnh (pT P) := by
  unfold rHere at h
  split at h
  · next c =>
    split at h
    · next w i e =>
      cases h
      rcases (N.is e).2 with ⟨-, b⟩ | ⟨b, -⟩
      · exact ⟨c.1, rfl, b⟩
      · cases b
    · cases h
  · cases h
theorem rHouse_inv {P : PT} {l : LTk} {q : Int × LTk} (h : rHouse tp n P l = .inl q) (N : NI P) (L : LOK n l) : lk l = 2 ∧ Adv n l q.2 ∧ 0 ≤ q.1 ∧ q.1 < tnh (pT P) := by
  obtain ⟨a, h1, h2⟩ := rb_inv h
  obtain ⟨c, d, e⟩ := rHere_inv h1 N
  cases h2
  exact ⟨c, by rw [d]; exact ga_adv L, e⟩
theorem rBegins_inv {can : Prop} [Decidable can] {T : XTw} {l l' : LTk} (h : rBegins tp n can T l = .inl l') : can ∧ tsc T 0 ≠ 0 ∧ l' = ga tp n l := by
  unfold rBegins at h
  split at h
  · next c =>
    split at h
    · cases h
    · next d =>
      cases h
      exact ⟨c, d, rfl⟩
  · cases h
/-- what a line leaves -/
def LinOK (n : Int) (l : LTk) (q : PT × LTk) : Prop := PI q.1 (le_ q.2) ∧ LOK n q.2 ∧ le_ l < le_ q.2
theorem LinOK.mk {P : PT} {l l' : LTk} {e : Int} (I : PI P e) (A : Adv n l l') (h : e ≤ le_ l') (h2 : le_ l < le_ l') : LinOK n l (P, l') := ⟨I.mono h, A.1, h2⟩
theorem lTown_ok {P : PT} {l : LTk} {q : PT × LTk} (h : lTown tp n P l = .inl q) (I : PI P (le_ l)) (L : LOK n l) : LinOK n l q := by
  unfold lTown at h
  split at h
  · obtain ⟨a, h1, hz1⟩ := rb_inv h
    obtain ⟨b, h2, hz2⟩ := rb_inv hz1
    have a0 := ga_adv (tp := tp) L
    obtain ⟨k1, r1, a1⟩ := rAft_inv h1 a0.1
    obtain ⟨k2, r2, a2⟩ := rAft_inv h2 a1.1
    have lt := ga_lt L (by rw [k1]; decide)
    cases hz2
    have A := a1.trans a2
    exact LinOK.mk (I.town r1 r2) (a0.trans A) (by have := A.2; omega) (by have := A.2; omega)
  · cases h
theorem lHouse_ok {P : PT} {l : LTk} {q : PT × LTk} (h : lHouse tp n P l = .inl q) (I : PI P (le_ l)) (L : LOK n l) : LinOK n l q := by
  obtain ⟨x0, h0, hz1⟩ := rb_inv h
  obtain ⟨x1, h1, hz2⟩ := rb_inv hz1
  obtain ⟨x2, h2, hz3⟩ := rb_inv hz2
  obtain ⟨x3, h3, hz4⟩ := rb_inv hz3
  obtain ⟨x4, h4, hz5⟩ := rb_inv hz4
  obtain ⟨x5, h5, hz6⟩ := rb_inv hz5
  obtain ⟨x6, h6, hz7⟩ := rb_inv hz6
  obtain ⟨n7, told, rfl⟩ := rBegins_inv h0
  have a0 := ga_adv (tp := tp) L
  obtain ⟨k1, xw, fr, a1⟩ := rFresh_inv h1 a0.1
  obtain ⟨-, r2, a2⟩ := rAft_inv h2 a1.1
  obtain ⟨-, r3, a3⟩ := rAft_inv h3 a2.1
  obtain ⟨-, r4, a4⟩ := rAft_inv h4 a3.1
  obtain ⟨-, rfl⟩ := rMust_inv h5
  have a5 := ga_adv (tp := tp) a4.1
  obtain ⟨-, -, a6⟩ := rWord_inv h6 a5.1
  have lt := ga_lt L (by rw [k1]; decide)
  cases hz7
  have A := a1.trans (a2.trans (a3.trans (a4.trans (a5.trans a6))))
  exact LinOK.mk (I.house n7 told xw fr r2 r3 r4) (a0.trans A) (by have := A.2; omega) (by have := A.2; omega)
theorem lWrong_ok {P : PT} {l : LTk} {q : PT × LTk} (h : lWrong tp n P l = .inl q) (I : PI P (le_ l)) (L : LOK n l) : LinOK n l q := by
  obtain ⟨x0, h0, hz1⟩ := rb_inv h
  obtain ⟨x1, h1, hz2⟩ := rb_inv hz1
  obtain ⟨-, told, rfl⟩ := rBegins_inv h0
  have a0 := ga_adv (tp := tp) L
  obtain ⟨k1, e1, i0⟩ := rHere_inv h1 I.1
  split at hz2
  · next f =>
    obtain ⟨x2, h2, hz3⟩ := rb_inv hz2
    obtain ⟨x3, h3, hz4⟩ := rb_inv hz3
    rw [e1] at h2
    obtain ⟨-, rfl⟩ := rMust_inv h2
    have a1 := ga_adv (tp := tp) a0.1
    have a2 := ga_adv (tp := tp) a1.1
    obtain ⟨k3, e3, g0⟩ := rHere_inv h3 I.1
    split at hz4
    · cases hz4
    · next c =>
      cases hz4
      have lt := ga_lt L (by rw [k1]; decide)
      rw [e3]
      have a3 := ga_adv (tp := tp) a2.1
      have A := a1.trans (a2.trans a3)
      exact LinOK.mk (I.wrong i0 g0 (fun z => c (Or.inl z)) (fun z => c (Or.inr z))) (a0.trans A) (by have := A.2; omega) (by have := A.2; omega)
  · cases hz2
theorem lOpen_ok {P : PT} {l : LTk} {q : PT × LTk} (h : lOpen tp n P l = .inl q) (I : PI P (le_ l)) (L : LOK n l) : LinOK n l q := by
  obtain ⟨x0, h0, hz1⟩ := rb_inv h
  obtain ⟨x1, h1, hz2⟩ := rb_inv hz1
  obtain ⟨-, told, rfl⟩ := rBegins_inv h0
  have a0 := ga_adv (tp := tp) L
  obtain ⟨k1, e1, i0⟩ := rHere_inv h1 I.1
  split at hz2
  · obtain ⟨x2, h2, hz3⟩ := rb_inv hz2
    obtain ⟨x3, h3, hz4⟩ := rb_inv hz3
    rw [e1] at h2
    have a1 := ga_adv (tp := tp) a0.1
    obtain ⟨-, r2, a2⟩ := rAft_inv h2 a1.1
    obtain ⟨-, r3, a3⟩ := rAft_inv h3 a2.1
    cases hz4
    have lt := ga_lt L (by rw [k1]; decide)
    have A := a1.trans (a2.trans a3)
    exact LinOK.mk (I.open_ ⟨r2.1, r3⟩) (a0.trans A) (by have := A.2; omega) (by have := A.2; omega)
  · cases hz2
theorem lStreet_ok {P : PT} {l : LTk} {q : PT × LTk} (h : lStreet tp n P l = .inl q) (I : PI P (le_ l)) (L : LOK n l) : LinOK n l q := by
  obtain ⟨x0, h0, hz1⟩ := rb_inv h
  obtain ⟨x1, h1, hz2⟩ := rb_inv hz1
  obtain ⟨x2, h2, hz3⟩ := rb_inv hz2
  obtain ⟨s10, told, rfl⟩ := rBegins_inv h0
  have a0 := ga_adv (tp := tp) L
  obtain ⟨k1, a1, i0⟩ := rHouse_inv h1 I.1 a0.1
  obtain ⟨k2, e2, g0⟩ := rHere_inv h2 I.1
  split at hz3
  · cases hz3
  · next c =>
    obtain ⟨x3, h3, hz4⟩ := rb_inv hz3
    rw [e2] at h3
    have a2 := ga_adv (tp := tp) a1.1
    obtain ⟨-, r3, a3⟩ := rAft_inv h3 a2.1
    cases hz4
    have lt := ga_lt L (by rw [k1]; decide)
    have A := a1.trans (a2.trans a3)
    exact LinOK.mk (I.street s10 (fun z => c (Or.inl z)) r3) (a0.trans A) (by have := A.2; omega) (by have := A.2; omega)
theorem lPerson_ok {P : PT} {l : LTk} {q : PT × LTk} (h : lPerson tp n P l = .inl q) (I : PI P (le_ l)) (L : LOK n l) : LinOK n l q := by
  obtain ⟨x0, h0, hz1⟩ := rb_inv h
  obtain ⟨x1, h1, hz2⟩ := rb_inv hz1
  obtain ⟨x2, h2, hz3⟩ := rb_inv hz2
  obtain ⟨x3, h3, hz4⟩ := rb_inv hz3
  obtain ⟨x4, h4, hz5⟩ := rb_inv hz4
  obtain ⟨x5, h5, hz6⟩ := rb_inv hz5
  obtain ⟨n4, told, rfl⟩ := rBegins_inv h0
  have a0 := ga_adv (tp := tp) L
  obtain ⟨k1, xw, fr, a1⟩ := rFresh_inv h1 a0.1
  obtain ⟨-, rfl⟩ := rMust_inv h2
  have a2 := ga_adv (tp := tp) a1.1
  obtain ⟨-, a3, i0⟩ := rHouse_inv h3 I.1 a2.1
  obtain ⟨-, rfl⟩ := rMust_inv h4
  have a4 := ga_adv (tp := tp) a3.1
  obtain ⟨-, a5, j0⟩ := rHouse_inv h5 I.1 a4.1
  have lt := ga_lt L (by rw [k1]; decide)
  cases hz6
  have A := a1.trans (a2.trans (a3.trans (a4.trans a5)))
  exact LinOK.mk (I.person n4 xw fr i0 j0) (a0.trans A) (by have := A.2; omega) (by have := A.2; omega)
theorem lSign_ok {P : PT} {l : LTk} {q : PT × LTk} (h : lSign tp n P l = .inl q) (I : PI P (le_ l)) (L : LOK n l) : LinOK n l q := by
  obtain ⟨x0, h0, hz1⟩ := rb_inv h
  obtain ⟨x1, h1, hz2⟩ := rb_inv hz1
  obtain ⟨x2, h2, hz3⟩ := rb_inv hz2
  obtain ⟨s8, told, rfl⟩ := rBegins_inv h0
  have a0 := ga_adv (tp := tp) L
  obtain ⟨k1, a1, i0⟩ := rHouse_inv h1 I.1 a0.1
  obtain ⟨-, -, a2⟩ := rWord_inv h2 a1.1
  have lt := ga_lt L (by rw [k1]; decide)
  cases hz3
  have A := a1.trans a2
  exact LinOK.mk (I.note i0 (Or.inl ⟨rfl, rfl, s8⟩)) (a0.trans A) (by have := A.2; omega) (by have := A.2; omega)
theorem lNoise_ok {P : PT} {l : LTk} {q : PT × LTk} (h : lNoise tp n P l = .inl q) (I : PI P (le_ l)) (L : LOK n l) : LinOK n l q := by
  obtain ⟨x0, h0, hz1⟩ := rb_inv h
  obtain ⟨x1, h1, hz2⟩ := rb_inv hz1
  obtain ⟨x2, h2, hz3⟩ := rb_inv hz2
  obtain ⟨s4, told, rfl⟩ := rBegins_inv h0
  have a0 := ga_adv (tp := tp) L
  obtain ⟨k1, a1, i0⟩ := rHouse_inv h1 I.1 a0.1
  obtain ⟨-, r2, e2⟩ := rNum_inv h2
  have a2 := ga_adv (tp := tp) a1.1
  have lt := ga_lt L (by rw [k1]; decide)
  rw [e2] at r2 hz3
  cases hz3
  have A := a1.trans a2
  exact LinOK.mk (l' := ga tp n x1.2) (I.note i0 (Or.inr ⟨rfl, ⟨rfl, r2⟩, s4⟩)) (a0.trans A) (by have := A.2; omega) (by have := A.2; omega)
theorem lLine_ok {P : PT} {l : LTk} {q : PT × LTk} (h : lLine tp n P l = .inl q) (I : PI P (le_ l)) (L : LOK n l) : lk l = 2 ∧ LinOK n l q := by
  unfold lLine at h
  split at h
  · cases h
  · next c =>
    refine ⟨Decidable.of_not_not c, ?_⟩
    split at h
    · exact lTown_ok h I L
    · split at h
      · exact lHouse_ok h I L
      · split at h
        · exact lWrong_ok h I L
        · split at h
          · exact lOpen_ok h I L
          · split at h
            · exact lStreet_ok h I L
            · split at h
              · exact lPerson_ok h I L
              · split at h
                · exact lSign_ok h I L
                · split at h
                  · exact lNoise_ok h I L
                  · cases h
end
