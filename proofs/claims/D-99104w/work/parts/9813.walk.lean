/-! WALKS, 52: rows of exchanges: WrongRoomModel's next tuple -/
set_option maxRecDepth 100000
set_option maxHeartbeats 4000000
def Fr13 (m : Int) (h g : XH) : Prop := XFr (fun _ _ => False) (fun z => z = m + 13) h g ∧ xsz g = xsz h ∧ xsl g = xsl h
theorem Fr13.refl {m : Int} (h : XH) : Fr13 m h h := ⟨XFr.refl h, rfl, rfl⟩
theorem Fr13.puta {m : Int} {h g : XH} {i z : Int} (p : Fr13 m h g) : Fr13 m h (xputa g (m + 13) i z) := ⟨p.1.puta (Or.inr rfl), p.2.1, p.2.2⟩
theorem Fr13.frs {m : Int} {h g : XH} (p : Fr13 m h g) : FrS m h g := ⟨p.1.mono (fun _ _ _ w => w.elim) (fun z _ w => by omega), p.2⟩
def NextL (l : List Int) (P : Int → Int) (v : Option XV) : Prop := (∃ k : Nat, k < l.length ∧ l.getD k 0 < 48 ∧ (∀ j : Nat, k < j → j < l.length → l.getD j 0 = 48) ∧ v = some (.inl 1) ∧ ∀ j : Nat, j < l.length → P (j : Int) = if j < k then l.getD j 0 else if j = k then l.getD k 0 + 1 else 0) ∨ ((∀ j : Nat, j < l.length → l.getD j 0 = 48) ∧ v = some (.inl 0))
theorem m_nextPairs {d : Nat} {h : XH} {B m n : Int} {T : XTw} {V : Int → Int} {l : List Int} (C : MCtx h B m n T V) (l3 : l.length ≤ 3) (lr : ∀ j : Nat, j < l.length → 0 ≤ l.getD j 0 ∧ l.getD j 0 < 49) (P : Pair3 h m l) : WpM d 227 [.inr (.inr m), .inl (l.length : Int)] h (XRet fun v h' => Fr13 m h h' ∧ NextL l (xar h' (m + 13)) v) := by
  have key : ∀ (k : Nat) (h2 : XH), k ≤ l.length → Fr13 m h h2 → (∀ j : Nat, j < l.length → xar h2 (m + 13) (j : Int) = if j < k then l.getD j 0 else 0) → (∀ j : Nat, k ≤ j → j < l.length → l.getD j 0 = 48) → Wp d 227 4 [some (.inr (.inr m)), some (.inl (l.length : Int)), some (.inl ((k : Int) - 1))] [] h2 (XRet fun v h' => Fr13 m h h' ∧ NextL l (xar h' (m + 13)) v) := by
    intro k
    induction k with
    | zero =>
      intro h2 kl F P2 hz
      refine Wp.vc 400 [8] rfl ?_
      exact ⟨fun _ => ⟨⟨by decide, by decide⟩, _, rfl, F, Or.inr ⟨fun j hj => hz j (Nat.zero_le _) hj, rfl⟩⟩, fun c => absurd (show ((0 : Nat) : Int) - 1 < 0 by decide) c⟩
    | succ k ih =>
      intro h2 kl F P2 hz
      have C2 := C.keep F.frs
      have tm := C2.2.1.1
      obtain ⟨t13, f99⟩ := C2.2.1.2.2.2.2.2.2.2.2.2.2.2.2.2.1
      have pk : xar h2 (m + 13) (k : Int) = l.getD k 0 := (P2 k (by omega)).trans (if_pos (by omega))
      have r := lr k (by omega)
      rw [show ((k + 1 : Nat) : Int) - 1 = (k : Int) by omega]
      have e1 : xar (xputa h2 (m + 13) (k : Int) (l.getD k 0 + 1)) (m + 13) (k : Int) = l.getD k 0 + 1 := by rw [xar_puta, if_pos ⟨rfl, rfl⟩]
      have f1 : xfl (xputa h2 (m + 13) (k : Int) (l.getD k 0 + 1)) m 99 = m + 13 := f99
      refine Wp.vc 400 [4] rfl ?_
      rw [f99, pk, f1, e1, show (k : Int) + -1 = (k : Int) - 1 by omega]
      refine ⟨fun w => absurd w (by omega), fun _ => ⟨isF tm rfl, isA t13 (by omega) (by omega), by omega, isB t13 (by omega) (by omega), isF tm rfl, isA t13 (by omega) (by omega), fun c => ⟨isF tm rfl, isB t13 (by omega) (by omega), by omega, ?_⟩, fun c => ⟨⟨by decide, by decide⟩, _, rfl, F.puta, Or.inl ⟨k, by omega, by omega, fun j j0 j1 => hz j (by omega) j1, rfl, fun j hj => ?_⟩⟩⟩⟩
      · refine ih _ (by omega) F.puta.puta (fun j hj => ?_) (fun j j0 j1 => ?_)
        · rw [xar_puta]
          by_cases e : j = k
          · rw [if_pos ⟨rfl, by omega⟩, if_neg (by omega)]
          · rw [if_neg (fun w => e (by omega)), xar_puta, if_neg (fun w => e (by omega)), P2 j hj]
            by_cases lt : j < k
            · rw [if_pos (by omega), if_pos lt]
            · rw [if_neg (by omega), if_neg lt]
        · by_cases e : j = k
          · rw [e]
            omega
          · exact hz j (by omega) j1
      · rw [xar_puta]
        by_cases e : j = k
        · rw [if_pos ⟨rfl, by omega⟩, if_neg (by omega), if_pos e]
        · rw [if_neg (fun w => e (by omega)), P2 j hj]
          by_cases lt : j < k
          · rw [if_pos (by omega), if_pos lt]
          · rw [if_neg (by omega), if_neg lt, if_neg e]
  have k0 := key l.length h (Nat.le_refl _) (Fr13.refl h) (fun j hj => (P j hj).trans (if_pos hj).symm) (fun j h1 h2 => by omega)
  refine WpM.of rfl (Wp.vc 400 [4] rfl ?_)
  exact ⟨by omega, k0⟩
/-- the numbers: what stands behind tupN M N is tupN M (N + 1) -/
theorem tup_next {M : Nat} {N : Int} {P : Int → Int} {v : Option XV} (M3 : M ≤ 3) (N0 : 0 ≤ N ∧ N < ((49 ^ M : Nat) : Int)) (H : NextL (tupN M N) P v) : v = some (.inl (if N + 1 < ((49 ^ M : Nat) : Int) then 1 else 0)) ∧ (N + 1 < ((49 ^ M : Nat) : Int) → ∀ j : Nat, j < M → P (j : Int) = (tupN M (N + 1)).getD j 0) := by
  match M, M3 with
  | 0, _ =>
    have e0 : ((49 ^ 0 : Nat) : Int) = 1 := rfl
    rw [e0] at N0 ⊢
    rcases H with ⟨k, kl, -⟩ | ⟨-, rfl⟩
    · exact absurd kl (by show ¬ k < 0; omega)
    · exact ⟨by rw [if_neg (by omega)], fun c => by omega⟩
  | 1, _ =>
    have e0 : ((49 ^ 1 : Nat) : Int) = 49 := rfl
    have t : ∀ N, tupN 1 N = [N / 1] := fun _ => rfl
    rw [t] at H
    rw [e0] at N0 ⊢
    rcases H with ⟨k, kl, k1, k2, rfl, kp⟩ | ⟨hz, rfl⟩
    · have kl : k < 1 := kl
      obtain rfl : k = 0 := by omega
      have k1 : N / 1 < 48 := k1
      have p0 : P 0 = N / 1 + 1 := kp 0 (Nat.le_of_ble_eq_true rfl)
      refine ⟨by rw [if_pos (by omega)], fun c j hj => ?_⟩
      obtain rfl : j = 0 := by omega
      rw [t]
      show P 0 = (N + 1) / 1
      omega
    · have h0 : N / 1 = 48 := hz 0 (Nat.le_of_ble_eq_true rfl)
      exact ⟨by rw [if_neg (by omega)], fun c => by omega⟩
  | 2, _ =>
    have e0 : ((49 ^ 2 : Nat) : Int) = 2401 := rfl
    have t : ∀ N, tupN 2 N = [N / 49, N % 49 / 1] := fun _ => rfl
    rw [t] at H
    rw [e0] at N0 ⊢
    rcases H with ⟨k, kl, k1, k2, rfl, kp⟩ | ⟨hz, rfl⟩
    · have kl : k < 2 := kl
      have p0 := kp 0 (Nat.le_of_ble_eq_true rfl)
      have p1 := kp 1 (Nat.le_of_ble_eq_true rfl)
      match k, kl with
      | 0, _ =>
        have k1 : N / 49 < 48 := k1
        have q1 : N % 49 / 1 = 48 := k2 1 (Nat.le_of_ble_eq_true rfl) (Nat.le_of_ble_eq_true rfl)
        have p0 : P 0 = N / 49 + 1 := p0
        have p1 : P 1 = 0 := p1
        refine ⟨by rw [if_pos (by omega)], fun c j hj => ?_⟩
        rw [t]
        match j, hj with
        | 0, _ => show P 0 = (N + 1) / 49; omega
        | 1, _ => show P 1 = (N + 1) % 49 / 1; omega
      | 1, _ =>
        have k1 : N % 49 / 1 < 48 := k1
        have p0 : P 0 = N / 49 := p0
        have p1 : P 1 = N % 49 / 1 + 1 := p1
        refine ⟨by rw [if_pos (by omega)], fun c j hj => ?_⟩
        rw [t]
        match j, hj with
        | 0, _ => show P 0 = (N + 1) / 49; omega
        | 1, _ => show P 1 = (N + 1) % 49 / 1; omega
    · have h0 : N / 49 = 48 := hz 0 (Nat.le_of_ble_eq_true rfl)
      have h1 : N % 49 / 1 = 48 := hz 1 (Nat.le_of_ble_eq_true rfl)
      exact ⟨by rw [if_neg (by omega)], fun c => by omega⟩
  | 3, _ =>
    have e0 : ((49 ^ 3 : Nat) : Int) = 117649 := rfl
    have t : ∀ N, tupN 3 N = [N / 2401, N % 2401 / 49, N % 2401 % 49 / 1] := fun _ => rfl
    rw [t] at H
    rw [e0] at N0 ⊢
    rcases H with ⟨k, kl, k1, k2, rfl, kp⟩ | ⟨hz, rfl⟩
    · have kl : k < 3 := kl
      have p0 := kp 0 (Nat.le_of_ble_eq_true rfl)
      have p1 := kp 1 (Nat.le_of_ble_eq_true rfl)
      have p2 := kp 2 (Nat.le_of_ble_eq_true rfl)
      match k, kl with
      | 0, _ =>
        have k1 : N / 2401 < 48 := k1
        have q1 : N % 2401 / 49 = 48 := k2 1 (Nat.le_of_ble_eq_true rfl) (Nat.le_of_ble_eq_true rfl)
        have q2 : N % 2401 % 49 / 1 = 48 := k2 2 (Nat.le_of_ble_eq_true rfl) (Nat.le_of_ble_eq_true rfl)
        have p0 : P 0 = N / 2401 + 1 := p0
        have p1 : P 1 = 0 := p1
        have p2 : P 2 = 0 := p2
        refine ⟨by rw [if_pos (by omega)], fun c j hj => ?_⟩
        rw [t]
        match j, hj with
        | 0, _ => show P 0 = (N + 1) / 2401; omega
        | 1, _ => show P 1 = (N + 1) % 2401 / 49; omega
        | 2, _ => show P 2 = (N + 1) % 2401 % 49 / 1; omega
      | 1, _ =>
        have k1 : N % 2401 / 49 < 48 := k1
        have q2 : N % 2401 % 49 / 1 = 48 := k2 2 (Nat.le_of_ble_eq_true rfl) (Nat.le_of_ble_eq_true rfl)
        have p0 : P 0 = N / 2401 := p0
        have p1 : P 1 = N % 2401 / 49 + 1 := p1
        have p2 : P 2 = 0 := p2
        refine ⟨by rw [if_pos (by omega)], fun c j hj => ?_⟩
        rw [t]
        match j, hj with
        | 0, _ => show P 0 = (N + 1) / 2401; omega
        | 1, _ => show P 1 = (N + 1) % 2401 / 49; omega
        | 2, _ => show P 2 = (N + 1) % 2401 % 49 / 1; omega
      | 2, _ =>
        have k1 : N % 2401 % 49 / 1 < 48 := k1
        have p0 : P 0 = N / 2401 := p0
        have p1 : P 1 = N % 2401 / 49 := p1
        have p2 : P 2 = N % 2401 % 49 / 1 + 1 := p2
        refine ⟨by rw [if_pos (by omega)], fun c j hj => ?_⟩
        rw [t]
        match j, hj with
        | 0, _ => show P 0 = (N + 1) / 2401; omega
        | 1, _ => show P 1 = (N + 1) % 2401 / 49; omega
        | 2, _ => show P 2 = (N + 1) % 2401 % 49 / 1; omega
    · have h0 : N / 2401 = 48 := hz 0 (Nat.le_of_ble_eq_true rfl)
      have h1 : N % 2401 / 49 = 48 := hz 1 (Nat.le_of_ble_eq_true rfl)
      have h2 : N % 2401 % 49 / 1 = 48 := hz 2 (Nat.le_of_ble_eq_true rfl)
      exact ⟨by rw [if_neg (by omega)], fun c => by omega⟩
theorem tup_rg : ∀ (M : Nat) (N : Int), 0 ≤ N → N < ((49 ^ M : Nat) : Int) → ∀ j : Nat, j < (tupN M N).length → 0 ≤ (tupN M N).getD j 0 ∧ (tupN M N).getD j 0 < 49
  | 0, _, _, _, j, hj => absurd hj (by show ¬ j < 0; omega)
  | M + 1, N, N0, N1, j, hj => by
    have p : 0 < (49 : Nat) ^ M := Nat.pow_pos (by decide)
    rw [Nat.pow_succ] at N1
    match j with
    | 0 =>
      show 0 ≤ N / ((49 ^ M : Nat) : Int) ∧ N / ((49 ^ M : Nat) : Int) < 49
      refine ⟨Int.ediv_nonneg N0 (by omega), Int.ediv_lt_of_lt_mul (by omega) ?_⟩
      omega
    | j + 1 =>
      show 0 ≤ (tupN M (N % ((49 ^ M : Nat) : Int))).getD j 0 ∧ (tupN M (N % ((49 ^ M : Nat) : Int))).getD j 0 < 49
      exact tup_rg M _ (Int.emod_nonneg _ (by omega)) (Int.emod_lt_of_pos _ (by omega)) j (by
        have : (tupN (M + 1) N).length = (tupN M (N % ((49 ^ M : Nat) : Int))).length + 1 := rfl
        omega)
