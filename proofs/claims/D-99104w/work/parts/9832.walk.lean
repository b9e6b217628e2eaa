/-! WALKS, 71: the town that is read is written, in WrongRoom -/
set_option maxRecDepth 100000
set_option maxHeartbeats 4000000
def Agr (U : Int → Nat → Prop) (A : Int → Prop) (h g : XH) : Prop := xsz h ≤ xsz g ∧ (∀ z, z < xsz h → xty g z = xty h z) ∧ (∀ z f, z < xsz h → (U z f ∨ f = 160 ∨ f = 161) → xfl g z f = xfl h z f) ∧ ∀ z i, z < xsz h → (A z ∨ ∃ m, xty h z = some (true, 1, m)) → xar g z i = xar h z i
theorem XFr.agr {W U : Int → Nat → Prop} {A A' : Int → Prop} {h g : XH} (p : XFr W A' h g) (h1 : ∀ z f, (U z f ∨ f = 160 ∨ f = 161) → ¬ W z f) (h2 : ∀ z, (A z ∨ ∃ m, xty h z = some (true, 1, m)) → ¬ A' z) : Agr U A h g :=
  ⟨p.2.1, p.2.2.1, fun z f hz w => p.2.2.2.1 z f hz (h1 z f w), fun z i hz w => p.2.2.2.2 z i hz (h2 z w)⟩
theorem CellX.g {U : Int → Nat → Prop} {A : Int → Prop} {B z : Int} {h g : XH} {t : XT} (G : Agr U A h g) (c : CellX h B z t) : CellX g B z t := ⟨c.1, by have := c.2.1; have := G.1; omega, (G.2.1 z c.2.1).trans c.2.2⟩
theorem CellX.gf {U : Int → Nat → Prop} {A : Int → Prop} {B z : Int} {h g : XH} {t : XT} (G : Agr U A h g) (c : CellX h B z t) {f : Nat} (u : U z f ∨ f = 160 ∨ f = 161) : xfl g z f = xfl h z f := G.2.2.1 z f c.2.1 u
theorem CellX.ga {U : Int → Nat → Prop} {A : Int → Prop} {B z : Int} {h g : XH} {t : XT} (G : Agr U A h g) (c : CellX h B z t) (u : A z) (i : Int) : xar g z i = xar h z i := G.2.2.2 z i c.2.1 (Or.inl u)
theorem StrX.g {U : Int → Nat → Prop} {A : Int → Prop} {B a : Int} {h g : XH} {w : List Int} (G : Agr U A h g) (s : StrX h B a w) : StrX g B a w := by
  obtain ⟨s1, s2, s3, s4⟩ := s
  have e := s1.gf G (f := 160) (Or.inr (Or.inl rfl))
  refine ⟨s1.g G, by rw [e]; exact s2.g G, (s1.gf G (Or.inr (Or.inr rfl))).trans s3, fun j hj => ?_⟩
  rw [e, G.2.2.2 _ _ s2.2.1 (Or.inr ⟨_, s2.2.2⟩)]
  exact s4 j hj
theorem HouseX.g {U : Int → Nat → Prop} {A : Int → Prop} {B a i : Int} {T : XTw} {h g : XH} (G : Agr U A h g) (s : HouseX h B T a i) (hU : ∀ f, 118 ≤ f ∧ f ≤ 125 → U a f) : HouseX g B T a i := by
  obtain ⟨s1, ⟨c0, c1, c2, c3, c4, c5, c6⟩, w, s3, s4, s5⟩ := s
  have fl : ∀ f, 118 ≤ f ∧ f ≤ 125 → xfl g a f = xfl h a f := fun f hf => s1.gf G (Or.inl (hU f hf))
  refine ⟨s1.g G, ⟨(fl _ (by decide)).trans c0, (fl _ (by decide)).trans c1, (fl _ (by decide)).trans c2, (fl _ (by decide)).trans c3, (fl _ (by decide)).trans c4, (fl _ (by decide)).trans c5, (fl _ (by decide)).trans c6⟩, w, s3, s4, ?_⟩
  rw [fl 119 (by decide)]
  exact s5.g G
theorem HouseX.cg {B a i : Int} {T T' : XTw} {h : XH} (s : HouseX h B T a i) (e : ∀ q, q ≤ 6 → thv T' q i = thv T q i) : HouseX h B T' a i := by
  unfold HouseX
  rw [e 0 (by decide), e 1 (by decide), e 2 (by decide), e 3 (by decide), e 4 (by decide), e 5 (by decide), e 6 (by decide)]
  exact s
theorem PersX.g {U : Int → Nat → Prop} {A : Int → Prop} {B a i : Int} {T : XTw} {h g : XH} (G : Agr U A h g) (s : PersX h B T a i) (hU : U a 128 ∧ U a 129) : PersX g B T a i := ⟨s.1.g G, (s.1.gf G (Or.inl hU.1)).trans s.2.1, (s.1.gf G (Or.inl hU.2)).trans s.2.2⟩
theorem PersX.cg {B a i : Int} {T T' : XTw} {h : XH} (s : PersX h B T a i) (e7 : thv T' 7 i = thv T 7 i) (e8 : thv T' 8 i = thv T 8 i) : PersX h B T' a i := ⟨s.1, s.2.1.trans e7.symm, s.2.2.trans e8.symm⟩
theorem NoteX.g {U : Int → Nat → Prop} {A : Int → Prop} {B a : Int} {q : Int × Int × Int} {h g : XH} (G : Agr U A h g) (s : NoteX h B a q) (hU : ∀ f, 130 ≤ f ∧ f ≤ 132 → U a f) : NoteX g B a q := by
  obtain ⟨s1, s2⟩ := s
  rcases s2 with ⟨k0, c, w, s3, s4, s5⟩ | ⟨k1, c, s3⟩
  · refine ⟨(c.gf G (Or.inl (hU _ (by decide)))).trans s1, Or.inl ⟨k0, c.g G, w, s3, s4, ?_⟩⟩
    rw [c.gf G (Or.inl (hU _ (by decide)))]
    exact s5.g G
  · exact ⟨(c.gf G (Or.inl (hU _ (by decide)))).trans s1, Or.inr ⟨k1, c.g G, (c.gf G (Or.inl (hU _ (by decide)))).trans s3⟩⟩
/-- a number of the town is written -/
theorem XTn.sc {z0 t v : Int} {k f : Nat} {h : XH} {P : PT} (X : XTn z0 h t P) (N : NI P) (hk : (k = 0 ∧ f = 109) ∨ (k = 1 ∧ f = 110) ∨ (k = 3 ∧ f = 112) ∨ (k = 4 ∧ f = 113)) : XTn z0 (xputf h t f v) t (scp (pT P) k v, P.2) := by
  obtain ⟨T, hH, hP, fl⟩ := X
  have G : Agr (fun _ f' => f' ≠ f) (fun _ => True) h (xputf h t f v) := XFr.agr ((XFr.refl h).putf (W := fun z f' => z = t ∧ f' = f) (A := fun _ => False) (Or.inr ⟨rfl, rfl⟩)) (fun z f' w e => by omega) (fun _ _ w => w)
  have u : ∀ f', f' < 109 ∨ 117 ≤ f' → f' ≠ f := fun f' _ => by omega
  obtain ⟨t0, ⟨a5, a6, a7, a8⟩, sc, H, Pp, Nt, St⟩ := T
  have e5 := t0.gf G (f := 105) (Or.inl (u _ (by decide)))
  have e6 := t0.gf G (f := 106) (Or.inl (u _ (by decide)))
  have e7 := t0.gf G (f := 107) (Or.inl (u _ (by decide)))
  have e8 := t0.gf G (f := 108) (Or.inl (u _ (by decide)))
  have en : tnh (scp (pT P) k v) = tnh (pT P) := if_neg (by omega)
  have ep : tpm (scp (pT P) k v) = tpm (pT P) := if_neg (by omega)
  unfold XTn TownX
  show (CellX (xputf h t f v) z0 t (true, 10, none) ∧ _) ∧ _
  rw [e5, e6, e7, e8]
  refine ⟨⟨t0.g G, ⟨a5.g G, a6.g G, a7.g G, a8.g G⟩, ?_, fun i h0 h1 => ?_, fun i h0 h1 => ?_, fun q w hq => (Nt q w hq).g G (fun f' hf => u _ (by omega)), St⟩, fun i w hi => ?_, fun i w hi => ?_, fun i h0 h1 => ?_⟩
  · obtain ⟨s0, s1, s2, s3, s4, s5, s6, s7⟩ := sc
    have fe : ∀ k' : Nat, k' ≠ k → tsc (scp (pT P) k v) k' = tsc (pT P) k' := fun k' hk' => if_neg hk'
    have fk : tsc (scp (pT P) k v) k = v := if_pos rfl
    have ge : ∀ f', f' ≠ f → xfl (xputf h t f v) t f' = xfl h t f' := fun f' hf' => by rw [xfl_putf, if_neg (fun w => hf' w.2)]
    have gk : xfl (xputf h t f v) t f = v := by rw [xfl_putf, if_pos ⟨rfl, rfl⟩]
    rcases hk with ⟨rfl, rfl⟩ | ⟨rfl, rfl⟩ | ⟨rfl, rfl⟩ | ⟨rfl, rfl⟩
    · exact ⟨gk.trans fk.symm, (ge _ (by decide)).trans (s1.trans (fe _ (by decide)).symm), (ge _ (by decide)).trans (s2.trans (fe _ (by decide)).symm), (ge _ (by decide)).trans (s3.trans (fe _ (by decide)).symm), (ge _ (by decide)).trans (s4.trans (fe _ (by decide)).symm), (ge _ (by decide)).trans (s5.trans (fe _ (by decide)).symm), (ge _ (by decide)).trans (s6.trans (fe _ (by decide)).symm), (ge _ (by decide)).trans (s7.trans (fe _ (by decide)).symm)⟩
    · exact ⟨(ge _ (by decide)).trans (s0.trans (fe _ (by decide)).symm), gk.trans fk.symm, (ge _ (by decide)).trans (s2.trans (fe _ (by decide)).symm), (ge _ (by decide)).trans (s3.trans (fe _ (by decide)).symm), (ge _ (by decide)).trans (s4.trans (fe _ (by decide)).symm), (ge _ (by decide)).trans (s5.trans (fe _ (by decide)).symm), (ge _ (by decide)).trans (s6.trans (fe _ (by decide)).symm), (ge _ (by decide)).trans (s7.trans (fe _ (by decide)).symm)⟩
    · exact ⟨(ge _ (by decide)).trans (s0.trans (fe _ (by decide)).symm), (ge _ (by decide)).trans (s1.trans (fe _ (by decide)).symm), (ge _ (by decide)).trans (s2.trans (fe _ (by decide)).symm), gk.trans fk.symm, (ge _ (by decide)).trans (s4.trans (fe _ (by decide)).symm), (ge _ (by decide)).trans (s5.trans (fe _ (by decide)).symm), (ge _ (by decide)).trans (s6.trans (fe _ (by decide)).symm), (ge _ (by decide)).trans (s7.trans (fe _ (by decide)).symm)⟩
    · exact ⟨(ge _ (by decide)).trans (s0.trans (fe _ (by decide)).symm), (ge _ (by decide)).trans (s1.trans (fe _ (by decide)).symm), (ge _ (by decide)).trans (s2.trans (fe _ (by decide)).symm), (ge _ (by decide)).trans (s3.trans (fe _ (by decide)).symm), gk.trans fk.symm, (ge _ (by decide)).trans (s5.trans (fe _ (by decide)).symm), (ge _ (by decide)).trans (s6.trans (fe _ (by decide)).symm), (ge _ (by decide)).trans (s7.trans (fe _ (by decide)).symm)⟩
  · have h1 : i < tnh (pT P) := by have h1 : i < tnh (scp (pT P) k v) := h1; omega
    exact (HouseX.g G (H i h0 h1) (fun f' hf => u _ (by omega))).cg (fun q _ => rfl)
  · have h1 : i < tpm (pT P) := by have h1 : i < tpm (scp (pT P) k v) := h1; omega
    exact (PersX.g G (Pp i h0 h1) ⟨u _ (by decide), u _ (by decide)⟩).cg rfl rfl
  · have := (List.getElem?_eq_some_iff.mp (show (pH P)[i]? = some w from hi)).1
    have := N.1.1
    rw [show xar (xputf h t f v) (xfl h t 105) (i : Int) = xar h (xfl h t 105) i from rfl, (H i (by omega) (by omega)).1.gf G (Or.inl (u 117 (by decide)))]
    exact (hH i w hi).g G
  · have := (List.getElem?_eq_some_iff.mp (show (pP P)[i]? = some w from hi)).1
    have := N.1.2
    rw [show xar (xputf h t f v) (xfl h t 106) (i : Int) = xar h (xfl h t 106) i from rfl, (Pp i (by omega) (by omega)).1.gf G (Or.inl (u 117 (by decide)))]
    exact (hP i w hi).g G
  · have h1 : i < tnh (pT P) := by have h1 : i < tnh (scp (pT P) k v) := h1; omega
    have q := fl i h0 h1
    have eb : lentB (scp (pT P) k v) i = lentB (pT P) i := by
      unfold lentB
      rw [en]
      rfl
    rw [show xar (xputf h t f v) (xfl h t 105) (i : Int) = xar h (xfl h t 105) i from rfl, (H i h0 h1).1.gf G (Or.inl (u 126 (by decide))), (H i h0 h1).1.gf G (Or.inl (u 127 (by decide)))]
    refine ⟨q.1, ?_⟩
    show _ = if lentB (scp (pT P) k v) i = true then 1 else 0
    rw [eb]
    exact q.2
/-- houses are apart: by their numbers -/
theorem TownX.apart {B t i j : Int} {T : XTw} {h : XH} (X : TownX h B t T) (i0 : 0 ≤ i ∧ i < tnh T) (j0 : 0 ≤ j ∧ j < tnh T) (e : xar h (xfl h t 105) i = xar h (xfl h t 105) j) : i = j := by
  have a := (X.2.2.2.1 i i0.1 i0.2).2.1.1
  have b := (X.2.2.2.1 j j0.1 j0.2).2.1.1
  rw [e] at a
  exact a.symm.trans b
/-- a house's number is written -/
theorem XTn.hf {z0 t v i : Int} {q f : Nat} {h : XH} {P : PT} (X : XTn z0 h t P) (N : NI P) (i0 : 0 ≤ i ∧ i < tnh (pT P)) (hk : (q = 4 ∧ f = 123) ∨ (q = 5 ∧ f = 124) ∨ (q = 9 ∧ f = 126)) : XTn z0 (xputf h (xar h (xfl h t 105) i) f v) t (hvp (pT P) q i v, P.2) := by
  have ap := fun j j0 => X.1.apart (i := i) (j := j) i0 j0
  obtain ⟨T, hH, hP, fl⟩ := X
  obtain ⟨a, ha⟩ : ∃ a, a = xar h (xfl h t 105) i := ⟨_, rfl⟩
  rw [← ha]
  have G : Agr (fun z f' => ¬ (z = a ∧ f' = f)) (fun _ => True) h (xputf h a f v) := XFr.agr ((XFr.refl h).putf (W := fun z f' => z = a ∧ f' = f) (A := fun _ => False) (Or.inr ⟨rfl, rfl⟩)) (fun z f' w e => by omega) (fun _ _ w => w)
  have u : ∀ z f', ¬ (123 ≤ f' ∧ f' ≤ 126) → ¬ (z = a ∧ f' = f) := fun z f' w e => by omega
  have un : ∀ z f', z ≠ a → ¬ (z = a ∧ f' = f) := fun z f' w e => w e.1
  obtain ⟨t0, ⟨a5, a6, a7, a8⟩, sc, H, Pp, Nt, St⟩ := T
  have fe : ∀ f', ¬ (123 ≤ f' ∧ f' ≤ 126) → xfl (xputf h a f v) t f' = xfl h t f' := fun f' w => t0.gf G (Or.inl (u t f' w))
  have hv : ∀ q' j, ¬ (q' = q ∧ j = i) → thv (hvp (pT P) q i v) q' j = thv (pT P) q' j := fun q' j w => if_neg w
  have hvi : thv (hvp (pT P) q i v) q i = v := if_pos ⟨rfl, rfl⟩
  unfold XTn TownX
  rw [fe 105 (by decide), fe 106 (by decide), fe 107 (by decide), fe 108 (by decide), fe 109 (by decide), fe 110 (by decide), fe 111 (by decide), fe 112 (by decide), fe 113 (by decide), fe 114 (by decide), fe 115 (by decide), fe 116 (by decide)]
  refine ⟨⟨t0.g G, ⟨a5.g G, a6.g G, a7.g G, a8.g G⟩, sc, fun j h0 h1 => ?_, fun j h0 h1 => ?_, fun k w hk' => (Nt k w hk').g G (fun f' hf => u _ _ (by omega)), St⟩, fun j w hj => ?_, fun j w hj => ?_, fun j h0 h1 => ?_⟩
  · have h1 : j < tnh (pT P) := h1
    rw [show xar (xputf h a f v) (xfl h t 105) j = xar h (xfl h t 105) j from rfl]
    by_cases e : j = i
    · subst e
      rw [← ha]
      have s := H j h0 h1
      rw [← ha] at s
      obtain ⟨s1, ⟨c0, c1, c2, c3, c4, c5, c6⟩, w, s3, s4, s5⟩ := s
      have ge : ∀ f', f' ≠ f → xfl (xputf h a f v) a f' = xfl h a f' := fun f' w => by rw [xfl_putf, if_neg (fun z => w z.2)]
      have gk : xfl (xputf h a f v) a f = v := by rw [xfl_putf, if_pos ⟨rfl, rfl⟩]
      have st : StrX (xputf h a f v) z0 (xfl (xputf h a f v) a 119) w := by rw [ge 119 (by omega)]; exact s5.g G
      refine ⟨s1.g G, ⟨(ge _ (by omega)).trans c0, (ge _ (by omega)).trans (c1.trans (hv _ _ (by omega)).symm), (ge _ (by omega)).trans (c2.trans (hv _ _ (by omega)).symm), (ge _ (by omega)).trans (c3.trans (hv _ _ (by omega)).symm), ?_, ?_, ?_⟩, w, s3, s4.trans (hv _ _ (by omega)).symm, st⟩
      · rcases hk with ⟨rfl, rfl⟩ | ⟨rfl, rfl⟩ | ⟨rfl, rfl⟩
        · exact gk.trans hvi.symm
        · exact (ge _ (by decide)).trans (c4.trans (hv _ _ (by omega)).symm)
        · exact (ge _ (by decide)).trans (c4.trans (hv _ _ (by omega)).symm)
      · rcases hk with ⟨rfl, rfl⟩ | ⟨rfl, rfl⟩ | ⟨rfl, rfl⟩
        · exact (ge _ (by decide)).trans (c5.trans (hv _ _ (by omega)).symm)
        · exact gk.trans hvi.symm
        · exact (ge _ (by decide)).trans (c5.trans (hv _ _ (by omega)).symm)
      · rcases hk with ⟨rfl, rfl⟩ | ⟨rfl, rfl⟩ | ⟨rfl, rfl⟩
        · exact (ge _ (by decide)).trans (c6.trans (hv _ _ (by omega)).symm)
        · exact (ge _ (by decide)).trans (c6.trans (hv _ _ (by omega)).symm)
        · exact (ge _ (by decide)).trans (c6.trans (hv _ _ (by omega)).symm)
    · exact (HouseX.g G (H j h0 h1) (fun f' _ => un _ _ (fun w => e (ap j ⟨h0, h1⟩ (ha.symm.trans w.symm)).symm))).cg (fun q' _ => hv q' j (fun w => e w.2))
  · exact (PersX.g G (Pp j h0 h1) ⟨u _ _ (by decide), u _ _ (by decide)⟩).cg (hv _ _ (by omega)) (hv _ _ (by omega))
  · have := (List.getElem?_eq_some_iff.mp (show (pH P)[j]? = some w from hj)).1
    have := N.1.1
    rw [show xar (xputf h a f v) (xfl h t 105) (j : Int) = xar h (xfl h t 105) j from rfl, (H j (by omega) (by omega)).1.gf G (Or.inl (u _ 117 (by decide)))]
    exact (hH j w hj).g G
  · have := (List.getElem?_eq_some_iff.mp (show (pP P)[j]? = some w from hj)).1
    have := N.1.2
    rw [show xar (xputf h a f v) (xfl h t 106) (j : Int) = xar h (xfl h t 106) j from rfl, (Pp j (by omega) (by omega)).1.gf G (Or.inl (u _ 117 (by decide)))]
    exact (hP j w hj).g G
  · have h1 : j < tnh (pT P) := h1
    have c := fl j h0 h1
    have eb : lentB (hvp (pT P) q i v) j = lentB (pT P) j := by
      unfold lentB
      rw [show tnh (hvp (pT P) q i v) = tnh (pT P) from rfl]
      congr 1
      funext x
      rw [hv 3 x (by omega)]
    rw [show xar (xputf h a f v) (xfl h t 105) j = xar h (xfl h t 105) j from rfl, (H j h0 h1).1.gf G (Or.inl (u _ 127 (by decide)))]
    refine ⟨?_, ?_⟩
    · show _ = thv (hvp (pT P) q i v) 9 j
      by_cases e : j = i ∧ q = 9
      · obtain ⟨rfl, rfl⟩ := e
        have : f = 126 := by omega
        rw [← ha, this, xfl_putf, if_pos ⟨rfl, rfl⟩]
        exact hvi.symm
      · rw [hv 9 j (by omega)]
        by_cases e2 : j = i
        · rw [← c.1, xfl_putf, if_neg (by omega)]
        · rw [(H j h0 h1).1.gf G (Or.inl (un _ _ (fun w => e2 (ap j ⟨h0, h1⟩ (ha.symm.trans w.symm)).symm)))]
          exact c.1
    · show _ = if lentB (hvp (pT P) q i v) j = true then 1 else 0
      rw [eb]
      exact c.2
/-- whose wrong room is whose is told -/
theorem XTn.wr {z0 t i g : Int} {h : XH} {P : PT} (X : XTn z0 h t P) (N : NI P) (i0 : 0 ≤ i ∧ i < tnh (pT P)) (g0 : 0 ≤ g ∧ g < tnh (pT P)) (e2 : thv (pT P) 3 i = -2) : XTn z0 (xputf (xputf h (xar h (xfl h t 105) i) 125 g) (xar h (xfl h t 105) g) 127 1) t (hvp (pT P) 3 i g, P.2) := by
  have ap := fun k j k0 j0 => X.1.apart (i := k) (j := j) k0 j0
  obtain ⟨T, hH, hP, fl⟩ := X
  obtain ⟨a, ha⟩ : ∃ a, a = xar h (xfl h t 105) i := ⟨_, rfl⟩
  obtain ⟨b, hb⟩ : ∃ b, b = xar h (xfl h t 105) g := ⟨_, rfl⟩
  rw [← ha, ← hb]
  obtain ⟨h', hh⟩ : ∃ h', h' = xputf (xputf h a 125 g) b 127 1 := ⟨_, rfl⟩
  have G : Agr (fun z f' => ¬ (z = a ∧ f' = 125) ∧ f' ≠ 127) (fun _ => True) h h' := by
    rw [hh]
    exact XFr.agr (((XFr.refl h).putf (W := fun z f' => (z = a ∧ f' = 125) ∨ f' = 127) (A := fun _ => False) (Or.inr (Or.inl ⟨rfl, rfl⟩))).putf (Or.inr (Or.inr rfl))) (fun z f' w e => by omega) (fun _ _ w => w)
  have u : ∀ z f', f' ≠ 125 → f' ≠ 127 → (¬ (z = a ∧ f' = 125) ∧ f' ≠ 127) := fun z f' w w2 => ⟨fun e => w e.2, w2⟩
  have un : ∀ z f', z ≠ a → f' ≠ 127 → (¬ (z = a ∧ f' = 125) ∧ f' ≠ 127) := fun z f' w w2 => ⟨fun e => w e.1, w2⟩
  have arr : ∀ z x, xar h' z x = xar h z x := fun z x => by rw [hh]; rfl
  have f125 : xfl h' a 125 = g := by rw [hh, xfl_putf, if_neg (fun w => absurd w.2 (by decide)), xfl_putf, if_pos ⟨rfl, rfl⟩]
  have f127 : ∀ z, xfl h' z 127 = if z = b then 1 else xfl h z 127 := fun z => by
    rw [hh, xfl_putf, xfl_putf, if_neg (c := z = a ∧ 127 = 125) (fun w => absurd w.2 (by decide))]
    by_cases q : z = b
    · rw [if_pos ⟨q, rfl⟩, if_pos q]
    · rw [if_neg (fun w => q w.1), if_neg q]
  rw [← hh]
  clear hh
  obtain ⟨t0, ⟨a5, a6, a7, a8⟩, sc, H, Pp, Nt, St⟩ := T
  have fe : ∀ f', f' ≠ 125 → f' ≠ 127 → xfl h' t f' = xfl h t f' := fun f' w w2 => t0.gf G (Or.inl (u t f' w w2))
  have hv : ∀ q' j, ¬ (q' = 3 ∧ j = i) → thv (hvp (pT P) 3 i g) q' j = thv (pT P) q' j := fun q' j w => if_neg w
  have hvi : thv (hvp (pT P) 3 i g) 3 i = g := if_pos ⟨rfl, rfl⟩
  unfold XTn TownX
  rw [fe 105 (by decide) (by decide), fe 106 (by decide) (by decide), fe 107 (by decide) (by decide), fe 108 (by decide) (by decide), fe 109 (by decide) (by decide), fe 110 (by decide) (by decide), fe 111 (by decide) (by decide), fe 112 (by decide) (by decide), fe 113 (by decide) (by decide), fe 114 (by decide) (by decide), fe 115 (by decide) (by decide), fe 116 (by decide) (by decide)]
  simp only [arr]
  refine ⟨⟨t0.g G, ⟨a5.g G, a6.g G, a7.g G, a8.g G⟩, sc, fun j h0 h1 => ?_, fun j h0 h1 => ?_, fun k w hk' => (Nt k w hk').g G (fun f' hf => u _ _ (by omega) (by omega)), St⟩, fun j w hj => ?_, fun j w hj => ?_, fun j h0 h1 => ?_⟩
  · have h1 : j < tnh (pT P) := h1
    by_cases e : j = i
    · subst e
      rw [← ha]
      have s := H j h0 h1
      rw [← ha] at s
      obtain ⟨s1, ⟨c0, c1, c2, c3, c4, c5, c6⟩, w, s3, s4, s5⟩ := s
      have ge : ∀ f', f' ≠ 125 → f' ≠ 127 → xfl h' a f' = xfl h a f' := fun f' w w2 => s1.gf G (Or.inl (u _ _ w w2))
      have st : StrX h' z0 (xfl h' a 119) w := by rw [ge 119 (by decide) (by decide)]; exact s5.g G
      exact ⟨s1.g G, ⟨(ge _ (by decide) (by decide)).trans c0, (ge _ (by decide) (by decide)).trans (c1.trans (hv _ _ (by omega)).symm), (ge _ (by decide) (by decide)).trans (c2.trans (hv _ _ (by omega)).symm), (ge _ (by decide) (by decide)).trans (c3.trans (hv _ _ (by omega)).symm), (ge _ (by decide) (by decide)).trans (c4.trans (hv _ _ (by omega)).symm), (ge _ (by decide) (by decide)).trans (c5.trans (hv _ _ (by omega)).symm), f125.trans hvi.symm⟩, w, s3, s4.trans (hv _ _ (by omega)).symm, st⟩
    · exact (HouseX.g G (H j h0 h1) (fun f' hf => un _ _ (fun w => e (ap i j i0 ⟨h0, h1⟩ (ha.symm.trans w.symm)).symm) (by omega))).cg (fun q' _ => hv q' j (fun w => e w.2))
  · exact (PersX.g G (Pp j h0 h1) ⟨u _ _ (by decide) (by decide), u _ _ (by decide) (by decide)⟩).cg (hv _ _ (by omega)) (hv _ _ (by omega))
  · have := (List.getElem?_eq_some_iff.mp (show (pH P)[j]? = some w from hj)).1
    have := N.1.1
    rw [(H j (by omega) (by omega)).1.gf G (Or.inl (u _ 117 (by decide) (by decide)))]
    exact (hH j w hj).g G
  · have := (List.getElem?_eq_some_iff.mp (show (pP P)[j]? = some w from hj)).1
    have := N.1.2
    rw [(Pp j (by omega) (by omega)).1.gf G (Or.inl (u _ 117 (by decide) (by decide)))]
    exact (hP j w hj).g G
  · have h1 : j < tnh (pT P) := h1
    have c := fl j h0 h1
    rw [(H j h0 h1).1.gf G (Or.inl (u _ 126 (by decide) (by decide))), f127]
    refine ⟨c.1.trans (hv _ _ (by omega)).symm, ?_⟩
    show _ = if lentB (hvp (pT P) 3 i g) j = true then 1 else 0
    have ib : lentB (hvp (pT P) 3 i g) j = true ↔ (lentB (pT P) j = true ∨ j = g) := by
      rw [lentB_iff, lentB_iff]
      constructor
      · rintro ⟨x, x0, x1, e⟩
        by_cases q : x = i
        · subst q
          rw [hvi] at e
          exact Or.inr e.symm
        · rw [hv 3 x (fun w => q w.2)] at e
          exact Or.inl ⟨x, x0, x1, e⟩
      · rintro (⟨x, x0, x1, e⟩ | rfl)
        · refine ⟨x, x0, x1, ?_⟩
          rw [hv 3 x (fun w => by rw [w.2, e2] at e; omega)]
          exact e
        · exact ⟨i, i0.1, i0.2, hvi⟩
    by_cases q : j = g
    · rw [if_pos (ib.mpr (Or.inr q)), q, ← hb, if_pos rfl]
    · rw [if_neg (fun w => q (ap j g ⟨h0, h1⟩ g0 (w.trans hb))), c.2]
      by_cases z : lentB (pT P) j = true
      · rw [if_pos z, if_pos (ib.mpr (Or.inl z))]
      · rw [if_neg z, if_neg (fun w => (ib.mp w).elim z q)]
/-- a street is told -/
theorem XTn.str {z0 t i g v : Int} {h : XH} {P : PT} (X : XTn z0 h t P) (N : NI P) (i0 : 0 ≤ i ∧ i < 7) (g0 : 0 ≤ g ∧ g < 7) : XTn z0 (xputa (xputa h (xfl h t 108) (7 * i + g) v) (xfl h t 108) (7 * g + i) v) t (stp_ (stp_ (pT P) i g v) g i v, P.2) := by
  obtain ⟨T, hH, hP, fl⟩ := X
  obtain ⟨a, ha⟩ : ∃ a, a = xfl h t 108 := ⟨_, rfl⟩
  rw [← ha]
  obtain ⟨t0, ⟨a5, a6, a7, a8⟩, sc, H, Pp, Nt, St⟩ := T
  obtain ⟨h', hh⟩ : ∃ h', h' = xputa (xputa h a (7 * i + g) v) a (7 * g + i) v := ⟨_, rfl⟩
  have ta : xty h a = some (true, 0, some 49) := by rw [ha]; exact a8.2.2
  have G : Agr (fun _ _ => True) (fun z => xty h z ≠ some (true, 0, some 49)) h h' := by
    rw [hh]
    refine XFr.agr (((XFr.refl h).puta (W := fun _ _ => False) (A := fun z => z = a) (Or.inr rfl)).puta (Or.inr rfl)) (fun _ _ _ w => w) (fun z w e => ?_)
    have e : z = a := e
    rw [e, ta] at w
    rcases w with w | ⟨m, w⟩
    · exact w rfl
    · cases w
  have flr : ∀ z f, xfl h' z f = xfl h z f := fun z f => by rw [hh]; rfl
  have arr : ∀ z x, z ≠ a → xar h' z x = xar h z x := fun z x w => by rw [hh, xar_puta, if_neg (fun e => w e.1), xar_puta, if_neg (fun e => w e.1)]
  have ara : ∀ x, xar h' a x = if x = 7 * g + i then v else if x = 7 * i + g then v else xar h a x := fun x => by
    rw [hh, xar_puta]
    by_cases q : x = 7 * g + i
    · rw [if_pos ⟨rfl, q⟩, if_pos q]
    · rw [if_neg (fun w => q w.2), if_neg q, xar_puta]
      by_cases q : x = 7 * i + g
      · rw [if_pos ⟨rfl, q⟩, if_pos q]
      · rw [if_neg (fun w => q w.2), if_neg q]
  rw [← hh]
  clear hh
  have ne : ∀ z e n, xty h z = some (true, e, some n) → e ≠ 0 → z ≠ a := fun z e n q q2 w => by
    rw [w, ta] at q
    cases q
    exact q2 rfl
  have r5 : ∀ x, xar h' (xfl h t 105) x = xar h (xfl h t 105) x := fun x => arr _ x (ne _ _ _ a5.2.2 (by decide))
  have r6 : ∀ x, xar h' (xfl h t 106) x = xar h (xfl h t 106) x := fun x => arr _ x (ne _ _ _ a6.2.2 (by decide))
  have r7 : ∀ x, xar h' (xfl h t 107) x = xar h (xfl h t 107) x := fun x => arr _ x (ne _ _ _ a7.2.2 (by decide))
  unfold XTn TownX
  simp only [flr, r5, r6, r7]
  refine ⟨⟨t0.g G, ⟨a5.g G, a6.g G, a7.g G, a8.g G⟩, sc, fun j h0 h1 => (HouseX.g G (H j h0 h1) (fun _ _ => trivial)).cg (fun _ _ => rfl), fun j h0 h1 => (PersX.g G (Pp j h0 h1) ⟨trivial, trivial⟩).cg rfl rfl, fun k w hk' => (Nt k w hk').g G (fun _ _ => trivial), fun x y x0 x1 y0 y1 => ?_⟩, fun j w hj => (hH j w hj).g G, fun j w hj => (hP j w hj).g G, fl⟩
  rw [← ha, ara]
  have s := St x y x0 x1 y0 y1
  rw [← ha] at s
  show _ = tst (stp_ (stp_ (pT P) i g v) g i v) x y
  by_cases q : x = g ∧ y = i
  · rw [if_pos (by omega)]
    exact (if_pos q : (if x = g ∧ y = i then v else _) = v).symm
  · rw [if_neg (by omega), show tst (stp_ (stp_ (pT P) i g v) g i v) x y = tst (stp_ (pT P) i g v) x y from if_neg q]
    by_cases q2 : x = i ∧ y = g
    · rw [if_pos (by omega)]
      exact (if_pos q2 : (if x = i ∧ y = g then v else _) = v).symm
    · rw [if_neg (by omega), show tst (stp_ (pT P) i g v) x y = tst (pT P) x y from if_neg q2]
      exact s
