/-! WALKS, 63: strings of the JDK: length, characters, hash, a new one -/
set_option maxRecDepth 100000
set_option maxHeartbeats 4000000
theorem xand255 (a : Int) : xand a 255 = a % 256 := by
  unfold xand
  have h2 : ((Int32.ofInt a).toBitVec &&& 255#32).toNat = (Int32.ofInt a).toBitVec.toNat % 256 := by
    rw [BitVec.toNat_and]
    exact Nat.and_two_pow_sub_one_eq_mod _ 8
  have h3 := x_tn a
  show ((Int32.ofInt a).toBitVec &&& 255#32).toInt = _
  rw [BitVec.toInt_eq_toNat_of_lt (by rw [h2]; omega), h2]
  omega
theorem x_isLatin1 {d : Nat} {h : XH} {a : Int} {w : List Int} (P : StrV h a w) : WpM d 266 [.inr (.inr a)] h (XE (some (.inl 1)) h) := by
  obtain ⟨⟨ra, ta⟩, ca, -⟩ := P
  refine WpM.of rfl (Wp.vc 400 [] rfl ?_)
  rw [ca]
  exact ⟨fun w => absurd w (by decide), fun _ => ⟨isF ta rfl, fun w => absurd rfl w, fun _ => ⟨⟨by decide, by decide⟩, rfl, rfl⟩⟩⟩
theorem x_length {d : Nat} {h : XH} {a : Int} {w : List Int} (P : StrV h a w) : WpM (d + 1) 268 [.inr (.inr a)] h (XE (some (.inl (w.length : Int))) h) := by
  obtain ⟨⟨ra, ta⟩, ca, pa⟩ := P
  obtain ⟨p1, p2⟩ := pa.len
  have cd : WpM d 269 [.inr (.inr a)] h (XE (some (.inl 0)) h) := by
    refine WpM.of rfl (Wp.vc 400 [] rfl ?_)
    rw [ca]
    exact ⟨fun w => absurd w (by decide), fun _ => ⟨isF ta rfl, ⟨by decide, by decide⟩, rfl, rfl⟩⟩
  refine WpM.of rfl (Wp.vc 400 [] rfl ?_)
  rw [p2]
  refine ⟨isF ta rfl, p1, ?_⟩
  refine Wp.callE (j := 0) rfl (Nat.le_of_ble_eq_true rfl) ⟨ra, ta⟩ cd ?_
  refine Wp.vc 400 [] rfl ?_
  exact ⟨⟨by decide, by decide⟩, trivial, by rw [show (w.length : Int) / 2 ^ (0 : Int).toNat = w.length from Int.ediv_one _], rfl⟩
theorem x_charAt {d : Nat} {h : XH} {a i : Int} {w : List Int} (P : StrV h a w) (i0 : 0 ≤ i ∧ i < (w.length : Int)) : WpM (d + 3) 270 [.inr (.inr a), .inl i] h (XE (some (.inl (w.getD i.toNat 0 % 256))) h) := by
  have lat := x_isLatin1 (d := d + 2) P
  obtain ⟨⟨ra, ta⟩, ca, pa⟩ := P
  obtain ⟨p1, p2⟩ := pa.len
  obtain ⟨q1, q2⟩ := pa.at i0.1 i0.2
  have hl := pa.1
  have chk : WpM (d + 1) 271 [.inl i, .inl (w.length : Int)] h (XE none h) := by
    have chk1 : ∀ z, WpM d 273 [.inl i, .inl (w.length : Int), .inr (.inr z)] h (XE (some (.inl i)) h) := by
      intro z
      refine WpM.of rfl (Wp.vc 400 [] rfl ?_)
      exact ⟨fun c => absurd c (by omega), fun _ => ⟨fun _ => ⟨trivial, rfl, rfl⟩, fun c => absurd i0.2 c⟩⟩
    refine WpM.of rfl (Wp.vc 400 [] rfl ?_)
    refine Wp.callE (j := 0) rfl (Nat.le_of_ble_eq_true rfl) trivial (chk1 _) ?_
    refine Wp.vc 400 [] rfl ?_
    exact ⟨trivial, rfl, rfl⟩
  have la : WpM (d + 2) 279 [.inr (.inr (xfl h a 160)), .inl i] h (XE (some (.inl (w.getD i.toNat 0 % 256))) h) := by
    refine WpM.of rfl (Wp.vc 400 [] rfl ?_)
    rw [p2]
    refine ⟨p1, ?_⟩
    refine Wp.callE (j := 0) rfl (Nat.le_of_ble_eq_true rfl) trivial chk ?_
    refine Wp.vc 400 [] rfl ?_
    rw [q2, xand255]
    exact ⟨q1, ⟨by omega, by omega⟩, ⟨by omega, by omega⟩, rfl, rfl⟩
  refine WpM.of rfl (Wp.vc 400 [] rfl ?_)
  refine Wp.callE (j := 0) rfl (Nat.le_of_ble_eq_true rfl) ⟨ra, ta⟩ lat ?_
  refine Wp.vc 400 [] rfl ?_
  refine ⟨fun w => absurd w (by decide), fun _ => ⟨isF ta rfl, ?_⟩⟩
  refine Wp.callE (j := 0) rfl (Nat.le_of_ble_eq_true rfl) trivial la ?_
  refine Wp.vc 400 [] rfl ?_
  exact ⟨⟨by omega, by omega⟩, rfl, rfl⟩
theorem xpackA_up : ∀ (w : List Int), (∀ c ∈ w, 97 ≤ c ∧ c ≤ 122) → ∀ v : Int, 0 ≤ v → xpackA v w ≤ (v + 1) * 32 ^ w.length := by
  intro w
  induction w with
  | nil => intro _ v hv; show v ≤ (v + 1) * 1; omega
  | cons c w ih =>
    intro hc v hv
    have h1 := hc c List.mem_cons_self
    have ih := ih (fun x hx => hc x (List.mem_cons_of_mem _ hx)) (32 * v + (c - 97 + 1)) (by omega)
    have e : (v + 1) * 32 ^ (c :: w).length = 32 * (v + 1) * 32 ^ w.length := by
      rw [List.length_cons, Int.pow_succ, Int.mul_comm (32 ^ w.length) 32, ← Int.mul_assoc, Int.mul_comm (v + 1) 32]
    rw [e]
    refine Int.le_trans ih (Int.mul_le_mul_of_nonneg_right (by omega) (Int.pow_nonneg (by decide)))
theorem xpack_up {w : List Int} (hw : ∀ c ∈ w, 97 ≤ c ∧ c ≤ 122) (hl : w.length ≤ 8) : 0 ≤ xpack w ∧ xpack w ≤ 1099511627776 := by
  refine ⟨(xpackA_rg w hw 0 (Int.le_refl _)).1, Int.le_trans (xpackA_up w hw 0 (Int.le_refl _)) ?_⟩
  rw [show ((0 : Int) + 1) * 32 ^ w.length = 32 ^ w.length from Int.one_mul _]
  have : (32 : Nat) ^ w.length ≤ 32 ^ 8 := Nat.pow_le_pow_right (by decide) hl
  have e : (32 : Int) ^ w.length = ((32 ^ w.length : Nat) : Int) := by rw [Int.natCast_pow]; rfl
  have e8 : (32 : Nat) ^ 8 = 1099511627776 := rfl
  omega
/-- what a word packed is -/
theorem m_packed {d : Nat} {h : XH} {a : Int} {w : List Int} (P : StrV h a w) (hw : ∀ c ∈ w, 97 ≤ c ∧ c ≤ 122) : WpM (d + 4) 150 [.inr (.inr a)] h (XE (some (.inr (.inl (xpack w)))) h) := by
  have hl := P.2.2.1
  have sr := P.1
  have key : ∀ (k : Int) (g : XH), k ≤ (w.length : Int) → (0 ≤ k ∧ g = h) → Wp (d + 4) 150 4 [some (.inr (.inr a)), some (.inr (.inl (xpack (w.take k.toNat)))), none, some (.inl k)] [] g (XE (some (.inr (.inl (xpack w)))) h) := by
    refine loopUp (G := fun k g => Wp (d + 4) 150 4 [some (.inr (.inr a)), some (.inr (.inl (xpack (w.take k.toNat)))), none, some (.inl k)] [] g (XE (some (.inr (.inl (xpack w)))) h)) (w.length : Int) ?_ ?_
    · rintro k g ⟨k0, rfl⟩ kn ih
      have lt : k.toNat < w.length := by omega
      have wk : w.getD k.toNat 0 = w[k.toNat] := (List.getElem_eq_getD 0).symm
      have hc := hw _ (List.getElem_mem lt)
      have up := xpack_up (w := w.take k.toNat) (fun c hc => hw c (List.mem_of_mem_take hc)) (by rw [List.length_take]; omega)
      have ih := ih g ⟨by omega, rfl⟩
      rw [show (k + 1).toNat = k.toNat + 1 by omega, List.take_succ_eq_append_getElem lt, ← wk, show xpack (w.take k.toNat ++ [w.getD k.toNat 0]) = 32 * xpack (w.take k.toNat) + (w.getD k.toNat 0 - 97 + 1) from xpackA_app _ _ _] at ih
      have ch := x_charAt (d := d) P ⟨k0, kn⟩
      rw [← wk] at hc
      rw [Int.emod_eq_of_lt (by omega) (by omega)] at ch
      generalize w.getD k.toNat 0 = c at *
      generalize xpack (w.take k.toNat) = v at *
      refine Wp.vc 400 [4] rfl ?_
      refine Wp.callE (j := 0) rfl (Nat.le_of_ble_eq_true rfl) sr (x_length P) ?_
      refine Wp.vc 400 [4] rfl ?_
      refine ⟨fun q => absurd q (by omega), fun _ => ⟨⟨by omega, by omega⟩, ?_⟩⟩
      refine Wp.callE (j := 0) rfl (Nat.le_of_ble_eq_true rfl) sr ch ?_
      refine Wp.vc 400 [4] rfl ?_
      exact ⟨⟨by omega, by omega⟩, ⟨by omega, by omega⟩, ⟨by omega, by omega⟩, ⟨by omega, by omega⟩, ih⟩
    · rintro g ⟨k0, rfl⟩
      rw [show ((w.length : Int)).toNat = w.length by omega, List.take_length]
      refine Wp.vc 400 [4] rfl ?_
      refine Wp.callE (j := 0) rfl (Nat.le_of_ble_eq_true rfl) sr (x_length P) ?_
      refine Wp.vc 400 [4] rfl ?_
      exact ⟨fun _ => ⟨trivial, rfl, rfl⟩, fun q => absurd (Int.le_refl _) q⟩
  refine WpM.of rfl (Wp.vc 400 [4] rfl ?_)
  exact key 0 h (by omega) ⟨Int.le_refl _, rfl⟩
/-- the hash of a string -/
def hsh1 (z c : Int) : Int := xw32 (xw32 (31 * z) + c)
def hsh (w : List Int) : Int := match w with
  | [] => 0
  | [c] => c
  | _ => w.foldl hsh1 0
def HashOK (h : XH) (a : Int) (w : List Int) : Prop := (xfl h a 162 = 0 ∧ (xfl h a 163 = 0 ∨ hsh w = 0)) ∨ xfl h a 162 = hsh w
theorem x_signedHash {d : Nat} {h : XH} {p : Int} {w : List Int} (P : BytV h p w) (hw : ∀ c ∈ w, 97 ≤ c ∧ c ≤ 122) : WpM d 281 [.inl 0, .inr (.inr p), .inl 0, .inl (w.length : Int)] h (XE (some (.inl (w.foldl hsh1 0))) h) := by
  have hl := P.1
  have e0 : xw32 (0 + (w.length : Int)) = (w.length : Int) := by
    rw [Int.zero_add]
    exact Int32.toInt_ofInt_of_le (by show -2147483648 ≤ (w.length : Int); omega) (by show (w.length : Int) < 2147483648; omega)
  have key : ∀ (k : Int) (g : XH), k ≤ (w.length : Int) → (0 ≤ k ∧ g = h) → Wp d 281 8 [some (.inl ((w.take k.toNat).foldl hsh1 0)), some (.inr (.inr p)), some (.inl 0), some (.inl (w.length : Int)), some (.inl (w.length : Int)), some (.inl k)] [] g (XE (some (.inl (w.foldl hsh1 0))) h) := by
    refine loopUp (G := fun k g => Wp d 281 8 [some (.inl ((w.take k.toNat).foldl hsh1 0)), some (.inr (.inr p)), some (.inl 0), some (.inl (w.length : Int)), some (.inl (w.length : Int)), some (.inl k)] [] g (XE (some (.inl (w.foldl hsh1 0))) h)) (w.length : Int) ?_ ?_
    · rintro k g ⟨k0, rfl⟩ kn ih
      have lt : k.toNat < w.length := by omega
      have wk : w.getD k.toNat 0 = w[k.toNat] := (List.getElem_eq_getD 0).symm
      have hc := hw _ (List.getElem_mem lt)
      obtain ⟨q1, q2⟩ := P.at k0 kn
      have ih := ih g ⟨by omega, rfl⟩
      rw [← wk] at hc
      rw [show (k + 1).toNat = k.toNat + 1 by omega, List.take_succ_eq_append_getElem lt, ← wk, List.foldl_append] at ih
      refine Wp.vc 400 [8] rfl ?_
      rw [q2, xand255, Int.emod_eq_of_lt (by omega) (by omega)]
      exact ⟨fun q => absurd q (by omega), fun _ => ⟨q1, ⟨by omega, by omega⟩, ih⟩⟩
    · rintro g ⟨k0, rfl⟩
      rw [show ((w.length : Int)).toNat = w.length by omega, List.take_length]
      refine Wp.vc 400 [15] rfl ?_
      exact ⟨fun _ => ⟨trivial, rfl, rfl⟩, fun q => absurd (Int.le_refl _) q⟩
  refine WpM.of rfl (Wp.vc 400 [8] rfl ?_)
  rw [e0]
  exact key 0 h (by omega) ⟨Int.le_refl _, rfl⟩
theorem x_L1hash {d : Nat} {h : XH} {p : Int} {w : List Int} (tp : xty h p = some (true, 1, some (w.length : Int))) (P : BytV h p w) (hw : ∀ c ∈ w, 97 ≤ c ∧ c ≤ 122) : WpM (d + 2) 277 [.inr (.inr p)] h (XE (some (.inl (hsh w))) h) := by
  obtain ⟨p1, p2⟩ := P.len
  have vh : WpM (d + 1) 280 [.inr (.inr p), .inl 0, .inl (w.length : Int), .inl 0, .inl 4] h (XE (some (.inl (w.foldl hsh1 0))) h) := by
    refine WpM.of rfl (Wp.vc 400 [44] rfl ?_)
    refine Wp.vc 400 [] rfl ?_
    refine ⟨⟨_, tp⟩, ?_⟩
    refine Wp.callE (j := 0) rfl (Nat.le_of_ble_eq_true rfl) trivial (x_signedHash P hw) ?_
    refine Wp.vc 400 [] rfl ?_
    exact ⟨trivial, rfl, rfl⟩
  match w, hw, P, p1, p2, vh with
  | [], hw, P, p1, p2, vh =>
    refine WpM.of rfl (Wp.vc 400 [2] rfl ?_)
    rw [p2]
    refine ⟨p1, ?_⟩
    refine Wp.sw rfl (t := 28) rfl ?_
    refine Wp.vc 400 [] rfl ?_
    exact ⟨trivial, rfl, rfl⟩
  | [c], hw, P, p1, p2, vh =>
    have hc := hw c List.mem_cons_self
    obtain ⟨q1, q2⟩ := P.at (i := 0) (Int.le_refl _) (by show (0 : Int) < 1; decide)
    have q2 : xar h p 0 = c := q2
    refine WpM.of rfl (Wp.vc 400 [2] rfl ?_)
    rw [p2]
    refine ⟨p1, ?_⟩
    refine Wp.sw rfl (t := 32) rfl ?_
    refine Wp.vc 400 [] rfl ?_
    rw [q2, xand255, Int.emod_eq_of_lt (by omega) (by omega)]
    exact ⟨q1, trivial, rfl, rfl⟩
  | c :: c' :: w', hw, P, p1, p2, vh =>
    have e0 : ((c :: c' :: w').length : Int) = (w'.length : Int) + 2 := by
      rw [List.length_cons, List.length_cons]
      omega
    refine WpM.of rfl (Wp.vc 400 [2] rfl ?_)
    rw [p2]
    refine ⟨p1, ?_⟩
    refine Wp.sw rfl (t := 42) ?_ ?_
    · simp only [xsw]
      rw [if_neg (by omega), if_neg (by omega)]
    · refine Wp.vc 400 [] rfl ?_
      rw [p2]
      refine ⟨p1, ?_⟩
      refine Wp.callE (j := 0) rfl (Nat.le_of_ble_eq_true rfl) trivial vh ?_
      refine Wp.vc 400 [] rfl ?_
      exact ⟨trivial, rfl, rfl⟩
/-- hashCode(): the hash is kept in the string -/
def HshW (a : Int) : Int → Nat → Prop := fun z f => z = a ∧ (f = 162 ∨ f = 163)
theorem x_hashCode {d : Nat} {h : XH} {B a : Int} {w : List Int} (X : StrX h B a w) (hl : w.length ≤ 8) (H : HashOK h a w) (hw : ∀ c ∈ w, 97 ≤ c ∧ c ≤ 122) : WpM (d + 3) 265 [.inr (.inr a)] h (XRet fun v h' => v = some (.inl (hsh w)) ∧ XFr (HshW a) xNoA h h' ∧ xsz h' = xsz h ∧ xsl h' = xsl h ∧ HashOK h' a w) := by
  have P := X.v hl
  have ta := X.1.2.2
  have lat := x_isLatin1 (d := d + 2) P
  have lh := x_L1hash (d := d) X.2.1.2.2 P.2.2 hw
  clear P
  refine WpM.of rfl (Wp.vc 400 [] rfl ?_)
  have done : xfl h a 162 = hsh w → XRet (fun v h' => v = some (.inl (hsh w)) ∧ XFr (HshW a) xNoA h h' ∧ xsz h' = xsz h ∧ xsl h' = xsl h ∧ HashOK h' a w) (.inl (some (.inl (xfl h a 162)))) h := fun e => by
    rw [e]
    exact ⟨_, rfl, rfl, XFr.refl h, rfl, rfl, Or.inr e⟩
  refine ⟨isF ta rfl, fun c => ⟨trivial, done ?_⟩, fun c => ⟨isF ta rfl, fun c2 => ⟨trivial, done ?_⟩, fun c2 => ?_⟩⟩
  · rcases H with q | q
    · exact absurd q.1 c
    · exact q
  · have c := Decidable.of_not_not c
    rcases H with q | q
    · rcases q.2 with q2 | q2
      · exact absurd q2 c2
      · rw [c, q2]
    · exact q
  · refine Wp.callE (j := 0) rfl (Nat.le_of_ble_eq_true rfl) ⟨true, ta⟩ lat ?_
    refine Wp.vc 400 [] rfl ?_
    refine ⟨fun q => absurd q (by decide), fun _ => ⟨isF ta rfl, ?_⟩⟩
    refine Wp.callE (j := 0) rfl (Nat.le_of_ble_eq_true rfl) trivial lh ?_
    refine Wp.vc 400 [] rfl ?_
    refine ⟨fun c3 => ⟨isW ta rfl, trivial, _, rfl, rfl, (XFr.refl h).putf (Or.inr ⟨rfl, Or.inl rfl⟩), rfl, rfl, Or.inr (if_pos ⟨rfl, rfl⟩)⟩, fun c3 => ?_⟩
    have c3 := Decidable.of_not_not c3
    refine ⟨⟨isW ta rfl, by decide, by decide⟩, trivial, _, rfl, rfl, (XFr.refl h).putf (Or.inr ⟨rfl, Or.inr rfl⟩), rfl, rfl, Or.inl ⟨?_, Or.inr c3⟩⟩
    rw [xfl_putf, if_neg (fun q => absurd q.2 (by decide))]
    exact Decidable.of_not_not c
/-- new String(char[], 0, n) -/
theorem x_newString {d : Nat} {h : XH} {a c : Int} {w : List Int} (ta : xty h a = some (true, 16, none)) (tc : xty h c = some (true, 2, some 8)) (ha : a < xsz h ∧ c < xsz h) (l0 : 1 ≤ w.length ∧ w.length ≤ 8) (hw : ∀ x ∈ w, 97 ≤ x ∧ x ≤ 122) (hc : ∀ j : Nat, j < w.length → xar h c (j : Int) = w.getD j 0) : WpM (d + 3) 261 [.inr (.inr a), .inr (.inr c), .inl 0, .inl (w.length : Int)] h (XRet fun v h' => v = none ∧ XFr (xOf a) xNoA h h' ∧ xsz h' = xsz h + 1 ∧ xsl h' = xsl h + (w.length : Int) ∧ xfl h' a 160 = xsz h ∧ xfl h' a 161 = 0 ∧ xfl h' a 162 = xfl h a 162 ∧ xfl h' a 163 = xfl h a 163 ∧ xty h' (xsz h) = some (true, 1, some (w.length : Int)) ∧ ∀ j : Nat, j < w.length → xar h' (xsz h) (j : Int) = w.getD j 0) := by
  have rc : ∀ d, WpM (d + 2) 262 [.inr (.inr c), .inl 0, .inl (w.length : Int)] h (XE (some (.inr (.inr 0))) h) := by
    intro d
    have k2 : ∀ z, WpM d 272 [.inl 0, .inl (w.length : Int), .inl 8, .inr (.inr z)] h (XE (some (.inl 0)) h) := by
      intro z
      obtain ⟨⟨r1, r2⟩, -⟩ := xor_bit (a := 8) (b := 0) (by decide) (by decide)
      obtain ⟨⟨r3, r4⟩, -⟩ := xor_bit (a := xor_ 8 0) (b := (w.length : Int)) ⟨r1, r2⟩ ⟨by omega, by omega⟩
      refine WpM.of rfl (Wp.vc 400 [] rfl ?_)
      exact ⟨fun q => absurd q (by omega), fun _ => ⟨⟨by omega, by omega⟩, fun _ => ⟨trivial, rfl, rfl⟩, fun q => absurd (by omega) q⟩⟩
    have k1 : WpM (d + 1) 263 [.inl 0, .inl (w.length : Int), .inl 8] h (XE (some (.inl 0)) h) := by
      refine WpM.of rfl (Wp.vc 400 [] rfl ?_)
      refine Wp.callE (j := 0) rfl (Nat.le_of_ble_eq_true rfl) trivial (k2 _) ?_
      refine Wp.vc 400 [] rfl ?_
      exact ⟨trivial, rfl, rfl⟩
    refine WpM.of rfl (Wp.vc 400 [] rfl ?_)
    rw [tc]
    refine ⟨⟨_, _, _, rfl⟩, ?_⟩
    refine Wp.callE (j := 0) rfl (Nat.le_of_ble_eq_true rfl) trivial k1 ?_
    refine Wp.vc 400 [] rfl ?_
    exact ⟨trivial, rfl, rfl⟩
  have cp : ∀ g p, xty g c = some (true, 2, some 8) → xty g p = some (true, 1, some (w.length : Int)) → (∀ j : Nat, j < w.length → xar g c (j : Int) = w.getD j 0) → c ≠ p → WpM d 275 [.inr (.inr c), .inl 0, .inr (.inr p), .inl 0, .inl (w.length : Int)] g (XRet fun v h' => v = some (.inl (w.length : Int)) ∧ XFr (fun _ _ => False) (fun z => z = p) g h' ∧ xsz h' = xsz g ∧ xsl h' = xsl g ∧ ∀ j : Nat, j < w.length → xar h' p (j : Int) = w.getD j 0) := by
    intro g p tg tp gc ne
    have key : ∀ (k : Int) (g' : XH), k ≤ (w.length : Int) → (0 ≤ k ∧ XFr (fun _ _ => False) (fun z => z = p) g g' ∧ xsz g' = xsz g ∧ xsl g' = xsl g ∧ xty g' c = some (true, 2, some 8) ∧ xty g' p = some (true, 1, some (w.length : Int)) ∧ (∀ j : Nat, j < w.length → xar g' c (j : Int) = w.getD j 0) ∧ ∀ j : Nat, (j : Int) < k → xar g' p (j : Int) = w.getD j 0) → ∀ l6, Wp d 275 3 [some (.inr (.inr c)), some (.inl k), some (.inr (.inr p)), some (.inl k), some (.inl (w.length : Int)), some (.inl k), l6] [] g' (XRet fun v h' => v = some (.inl (w.length : Int)) ∧ XFr (fun _ _ => False) (fun z => z = p) g h' ∧ xsz h' = xsz g ∧ xsl h' = xsl g ∧ ∀ j : Nat, j < w.length → xar h' p (j : Int) = w.getD j 0) := by
      refine loopUp (G := fun k g' => ∀ l6, Wp d 275 3 [some (.inr (.inr c)), some (.inl k), some (.inr (.inr p)), some (.inl k), some (.inl (w.length : Int)), some (.inl k), l6] [] g' (XRet fun v h' => v = some (.inl (w.length : Int)) ∧ XFr (fun _ _ => False) (fun z => z = p) g h' ∧ xsz h' = xsz g ∧ xsl h' = xsl g ∧ ∀ j : Nat, j < w.length → xar h' p (j : Int) = w.getD j 0)) (w.length : Int) ?_ ?_
      · rintro k g' ⟨k0, p1, z1, z2, tc', tp', gc', gp'⟩ kn ih l6
        have lt : k.toNat < w.length := by omega
        have wk : w.getD k.toNat 0 = w[k.toNat] := (List.getElem_eq_getD 0).symm
        have hx := hw _ (List.getElem_mem lt)
        rw [← wk] at hx
        have ck := gc' k.toNat lt
        rw [Int.toNat_of_nonneg k0] at ck
        have e8 : xw8 (w.getD k.toNat 0) = w.getD k.toNat 0 := Int8.toInt_ofInt_of_le (by omega) (by omega)
        have nx := ih (xputa g' p k (w.getD k.toNat 0)) ⟨by omega, p1.puta (Or.inr rfl), z1, z2, tc', tp', fun j hj => by
          rw [xar_puta, if_neg (by omega)]
          exact gc' j hj, fun j hj => by
          rw [xar_puta]
          by_cases q : (j : Int) = k
          · rw [if_pos ⟨rfl, q⟩, show k.toNat = j by omega]
          · rw [if_neg (by omega)]
            exact gp' j (by omega)⟩ (some (.inl (w.getD k.toNat 0)))
        refine Wp.vc 400 [3] rfl ?_
        rw [ck, e8]
        exact ⟨fun q => absurd q (by omega), fun _ => ⟨isA tc' k0 (by omega), fun _ => ⟨⟨isB tp' k0 kn, by omega, by omega⟩, ⟨by omega, by omega⟩, ⟨by omega, by omega⟩, ⟨by omega, by omega⟩, nx⟩, fun q => absurd (by omega) q⟩⟩
      · rintro g' ⟨k0, p1, z1, z2, -, -, -, gp'⟩ l6
        refine Wp.vc 400 [10] rfl ?_
        exact ⟨fun _ => ⟨trivial, _, rfl, rfl, p1, z1, z2, fun j hj => gp' j (by omega)⟩, fun q => absurd (Int.le_refl _) q⟩
    refine WpM.of rfl (Wp.vc 400 [3] rfl ?_)
    exact key 0 g (by omega) ⟨Int.le_refl _, XFr.refl g, rfl, rfl, tg, tp, gc, fun j hj => by omega⟩ none
  have cf : ∀ d g p, xty g p = some (true, 1, some (w.length : Int)) → WpM d 276 [.inr (.inr p), .inl (w.length : Int)] g (XE (some (.inl 0)) g) := by
    intro d g p tp
    refine WpM.of rfl (Wp.vc 400 [] rfl ?_)
    rw [tp]
    refine ⟨⟨_, _, _, rfl⟩, ⟨?_, ?_⟩, ⟨?_, ?_⟩, ?_⟩
    · show _ ≤ (w.length : Int) - (w.length : Int)
      omega
    · show (w.length : Int) - (w.length : Int) < _
      omega
    · show _ ≤ xw8 (xushr ((w.length : Int) - (w.length : Int)) 31)
      rw [Int.sub_self]
      decide
    · show xw8 (xushr ((w.length : Int) - (w.length : Int)) 31) ≤ _
      rw [Int.sub_self]
      decide
    · show XE _ g (.inl (some (.inl (xw8 (xushr ((w.length : Int) - (w.length : Int)) 31))))) g
      rw [Int.sub_self]
      exact ⟨rfl, rfl⟩
  have cm : WpM (d + 1) 274 [.inr (.inr c), .inl 0, .inl (w.length : Int)] h (XRet fun v h' => v = some (.inr (.inr (xsz h))) ∧ XFr (fun _ _ => False) xNoA h h' ∧ xsz h' = xsz h + 1 ∧ xsl h' = xsl h + (w.length : Int) ∧ xty h' (xsz h) = some (true, 1, some (w.length : Int)) ∧ ∀ j : Nat, j < w.length → xar h' (xsz h) (j : Int) = w.getD j 0) := by
    have n0 : c ≠ xsz h := by omega
    have cpd := cp (xnewa h 1 (w.length : Int)) (xsz h) (by rw [xty_newa, if_neg n0]; exact tc) (by rw [xty_newa, if_pos rfl]) (fun j hj => by rw [xar_newa, if_neg n0]; exact hc j hj) n0
    refine WpM.of rfl (Wp.vc 400 [] rfl ?_)
    refine ⟨⟨by omega, by omega⟩, ?_⟩
    refine Wp.callR (j := 0) rfl (Nat.le_of_ble_eq_true rfl) trivial cpd (fun v g q => ?_)
    obtain ⟨rfl, p1, z1, z2, gp⟩ := q
    refine Wp.vc 400 [] rfl ?_
    refine ⟨fun _ => ⟨trivial, _, rfl, rfl, ?_, ?_, ?_, ?_, gp⟩, fun q => absurd rfl q⟩
    · exact (((XFr.refl h).newa).trans p1 (fun _ _ _ w => w) (fun z hz w => by have : z = xsz h := w; omega))
    · rw [z1, xsz_newa]
    · rw [z2, xsl_newa]
    · exact (p1.2.2.1 (xsz h) (by rw [xsz_newa]; omega)).trans (by rw [xty_newa, if_pos rfl])
  have in2 : WpM (d + 2) 264 [.inr (.inr a), .inr (.inr c), .inl 0, .inl (w.length : Int), .inr (.inr 0)] h (XRet fun v h' => v = none ∧ XFr (xOf a) xNoA h h' ∧ xsz h' = xsz h + 1 ∧ xsl h' = xsl h + (w.length : Int) ∧ xfl h' a 160 = xsz h ∧ xfl h' a 161 = 0 ∧ xfl h' a 162 = xfl h a 162 ∧ xfl h' a 163 = xfl h a 163 ∧ xty h' (xsz h) = some (true, 1, some (w.length : Int)) ∧ ∀ j : Nat, j < w.length → xar h' (xsz h) (j : Int) = w.getD j 0) := by
    refine WpM.of rfl (Wp.vc 400 [] rfl ?_)
    refine ⟨⟨_, _, ta⟩, fun _ => ⟨fun q => absurd q (by decide), fun _ => ?_⟩, fun q => absurd q (by omega)⟩
    refine Wp.callR (j := 0) rfl (Nat.le_of_ble_eq_true rfl) trivial cm (fun v g q => ?_)
    obtain ⟨rfl, p1, z1, z2, tp, gp⟩ := q
    have ta2 : xty g a = some (true, 16, none) := (p1.2.2.1 a ha.1).trans ta
    have fl : ∀ f, xfl g a f = xfl h a f := fun f => p1.2.2.2.1 a f ha.1 (fun w => w)
    refine Wp.vc 400 [] rfl ?_
    refine Wp.callE (j := 0) rfl (Nat.le_of_ble_eq_true rfl) trivial (cf _ g (xsz h) tp) ?_
    refine Wp.vc 400 [] rfl ?_
    refine ⟨⟨isW ta2 rfl, by decide, by decide⟩, isW ta2 rfl, trivial, _, rfl, rfl, ?_, z1, z2, if_pos ⟨rfl, rfl⟩, ?_, ?_, ?_, tp, gp⟩
    · exact ((p1.mono (fun _ _ _ w => w.elim) (fun _ _ w => w)).putf (Or.inr rfl)).putf (Or.inr rfl)
    · rw [xfl_putf, if_neg (fun q => absurd q.2 (by decide)), xfl_putf, if_pos ⟨rfl, rfl⟩]
    · rw [xfl_putf, if_neg (fun q => absurd q.2 (by decide)), xfl_putf, if_neg (fun q => absurd q.2 (by decide))]
      exact fl _
    · rw [xfl_putf, if_neg (fun q => absurd q.2 (by decide)), xfl_putf, if_neg (fun q => absurd q.2 (by decide))]
      exact fl _
  refine WpM.of rfl (Wp.vc 400 [] rfl ?_)
  refine Wp.callE (j := 0) rfl (Nat.le_of_ble_eq_true rfl) trivial (rc d) ?_
  refine Wp.vc 400 [] rfl ?_
  refine Wp.callR (j := 0) rfl (Nat.le_of_ble_eq_true rfl) ⟨true, ta⟩ in2 (fun v g q => ?_)
  obtain ⟨rfl, q⟩ := q
  refine Wp.vc 400 [] rfl ?_
  exact ⟨trivial, _, rfl, rfl, q⟩
