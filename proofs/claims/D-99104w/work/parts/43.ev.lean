/-! EVIDENCE, 1: each row of the code tables is right: what all rows need -/
set_option maxRecDepth 100000
set_option maxHeartbeats 4000000
theorem xdd {M pc : Nat} {c : ByteArray} {r : Except DecodeError (Instr × Nat)} (B : xbytes M = c) (h : decode c pc = r) : decode (xbytes M) pc = r := by rw [B]; exact h
theorem xrg {k : Int} (h : (decide (-2147483648 ≤ k) && decide (k < 2147483648)) = true) : -2147483648 ≤ k ∧ k < 2147483648 := by
  rw [Bool.and_eq_true] at h
  exact ⟨of_decide_eq_true h.1, of_decide_eq_true h.2⟩
theorem xrgL {k : Int} (h : (decide (-9223372036854775808 ≤ k) && decide (k < 9223372036854775808)) = true) : -9223372036854775808 ≤ k ∧ k < 9223372036854775808 := by
  rw [Bool.and_eq_true] at h
  exact ⟨of_decide_eq_true h.1, of_decide_eq_true h.2⟩
def XAll (s0 : State) (A0 : Array Value) (D : va_G) (ta : Nat → ClassId) (l : Launch) (M : Nat) : List (Nat × XI) → Prop
  | [] => True
  | q :: r => XIOK s0 A0 D ta l M q.1 q.2 ∧ XAll s0 A0 D ta l M r
def XCalls (s0 : State) (A0 : Array Value) (D : va_G) (ta : Nat → ClassId) (l : Launch) (M pc n : Nat) : List (Option Nat × Nat) → Prop
  | [] => True
  | q :: r => CallOK s0 A0 D ta l M pc n q.1 q.2 ∧ XCalls s0 A0 D ta l M pc n r
theorem xAe {s0 : State} {A0 : Array Value} {D : va_G} {ta : Nat → ClassId} {l : Launch} {M : Nat} : XAll s0 A0 D ta l M [] := trivial
theorem xA0 {s0 : State} {A0 : Array Value} {D : va_G} {ta : Nat → ClassId} {l : Launch} {M pc : Nat} {r : List (Nat × XI)} {a : XA0} (h : ActOK s0 A0 D ta l M pc (x01 a)) (t : XAll s0 A0 D ta l M r) : XAll s0 A0 D ta l M ((pc, x0 a) :: r) := ⟨h, t⟩
theorem xA1 {s0 : State} {A0 : Array Value} {D : va_G} {ta : Nat → ClassId} {l : Launch} {M pc : Nat} {r : List (Nat × XI)} {a : XA1} (h : ActOK s0 A0 D ta l M pc a) (t : XAll s0 A0 D ta l M r) : XAll s0 A0 D ta l M ((pc, x1 a) :: r) := ⟨h, t⟩
theorem xAB {s0 : State} {A0 : Array Value} {D : va_G} {ta : Nat → ClassId} {l : Launch} {M pc : Nat} {r : List (Nat × XI)} {a : XB} (h : BrOK s0 A0 D ta l M pc a) (t : XAll s0 A0 D ta l M r) : XAll s0 A0 D ta l M ((pc, xB a) :: r) := ⟨h, t⟩
theorem xAR {s0 : State} {A0 : Array Value} {D : va_G} {ta : Nat → ClassId} {l : Launch} {M pc : Nat} {r : List (Nat × XI)} {a : XR} (h : RetOK s0 M pc a) (t : XAll s0 A0 D ta l M r) : XAll s0 A0 D ta l M ((pc, xR a) :: r) := ⟨h, t⟩
theorem xAT {s0 : State} {A0 : Array Value} {D : va_G} {ta : Nat → ClassId} {l : Launch} {M pc : Nat} {r : List (Nat × XI)} (h : decode (xbytes M) pc = .ok (.athrow, 1)) (t : XAll s0 A0 D ta l M r) : XAll s0 A0 D ta l M ((pc, xT) :: r) := ⟨h, t⟩
theorem xCm {s0 : State} {A0 : Array Value} {D : va_G} {ta : Nat → ClassId} {l : Launch} {M pc n : Nat} : ∀ {alts : List (Option Nat × Nat)}, XCalls s0 A0 D ta l M pc n alts → ∀ q ∈ alts, CallOK s0 A0 D ta l M pc n q.1 q.2
  | [], _, q, hq => nomatch hq
  | a :: r, h, q, hq => by
    rcases List.mem_cons.mp hq with e | e
    · rw [e]; exact h.1
    · exact xCm h.2 q e
theorem xAK {s0 : State} {A0 : Array Value} {D : va_G} {ta : Nat → ClassId} {l : Launch} {M pc : Nat} {r : List (Nat × XI)} {n np : Nat} {alts : List (Option Nat × Nat)} (hn : np = pc + 3) (h : XCalls s0 A0 D ta l M pc n alts) (t : XAll s0 A0 D ta l M r) : XAll s0 A0 D ta l M ((pc, xK (n, np, alts)) :: r) := ⟨⟨hn, xCm h⟩, t⟩
theorem xC0 {s0 : State} {A0 : Array Value} {D : va_G} {ta : Nat → ClassId} {l : Launch} {M pc n : Nat} : XCalls s0 A0 D ta l M pc n [] := trivial
theorem xC1 {s0 : State} {A0 : Array Value} {D : va_G} {ta : Nat → ClassId} {l : Launch} {M pc n y : Nat} {g : Option Nat} {r : List (Option Nat × Nat)} (h : CallOK s0 A0 D ta l M pc n g y) (t : XCalls s0 A0 D ta l M pc n r) : XCalls s0 A0 D ta l M pc n ((g, y) :: r) := ⟨h, t⟩
def XAllC (s0 : State) (A0 : Array Value) (D : va_G) (ta : Nat → ClassId) (l : Launch) (M : Nat) : List (List (Nat × XI)) → Prop
  | [] => True
  | q :: r => XAll s0 A0 D ta l M q ∧ XAllC s0 A0 D ta l M r
def XAllG (s0 : State) (A0 : Array Value) (D : va_G) (ta : Nat → ClassId) (l : Launch) (b : Nat) : List (List (List (Nat × XI))) → Prop
  | [] => True
  | q :: r => XAllC s0 A0 D ta l b q ∧ XAllG s0 A0 D ta l (b + 1) r
theorem XAll.lk {s0 : State} {A0 : Array Value} {D : va_G} {ta : Nat → ClassId} {l : Launch} {M pc : Nat} {xi : XI} : ∀ {r : List (Nat × XI)}, XAll s0 A0 D ta l M r → xlk r pc = some xi → XIOK s0 A0 D ta l M pc xi
  | [], _, e => nomatch e
  | (k, x) :: r, h, e => by
    unfold xlk at e
    split at e
    · next hb =>
      cases e
      rw [← Nat.eq_of_beq_eq_true hb]
      exact h.1
    · exact XAll.lk h.2 e
theorem XAllC.nth {s0 : State} {A0 : Array Value} {D : va_G} {ta : Nat → ClassId} {l : Launch} {M : Nat} : ∀ {L : List (List (Nat × XI))} (i : Nat), XAllC s0 A0 D ta l M L → XAll s0 A0 D ta l M (xnth [] L i)
  | [], _, _ => trivial
  | _ :: _, 0, h => h.1
  | _ :: _, i + 1, h => XAllC.nth i h.2
theorem XAllG.nth {s0 : State} {A0 : Array Value} {D : va_G} {ta : Nat → ClassId} {l : Launch} : ∀ {L : List (List (List (Nat × XI)))} (i b : Nat), XAllG s0 A0 D ta l b L → XAllC s0 A0 D ta l (b + i) (xnth [] L i)
  | [], _, _, _ => trivial
  | _ :: _, 0, _, h => h.1
  | _ :: _, i + 1, b, h => by
    have h1 := XAllG.nth i (b + 1) h.2
    rw [show b + 1 + i = b + (i + 1) by omega] at h1
    exact h1
theorem xq_0 : xcl[0]? = some (RX1, TX1, 21) := rfl
theorem xq_1 : xcl[1]? = some (RX2, TX2, 11) := rfl
theorem xq_2 : xcl[2]? = some (RX3, TX3, 8) := rfl
theorem xq_3 : xcl[3]? = some (RX4, TX4, 5) := rfl
theorem xq_4 : xcl[4]? = some (RX5, TX5, 8) := rfl
theorem xq_5 : xcl[5]? = some (RX7, fun _ => ("", "", "", false), 0) := rfl
theorem xq_6 : xcl[6]? = some (RX8, fun _ => ("", "", "", false), 0) := rfl
theorem xq_7 : xcl[7]? = some (RX9, TX9, 7) := rfl
theorem xq_8 : xcl[8]? = some (RX10, TX10, 6) := rfl
theorem xq_9 : xcl[9]? = some (RX11, TX11, 39) := rfl
theorem xq_10 : xcl[10]? = some (RX12, TX12, 12) := rfl
theorem xq_11 : xcl[11]? = some (RX14, TX14, 11) := rfl
theorem xq_12 : xcl[12]? = some (RX15, TX15, 4) := rfl
theorem xq_13 : xcl[13]? = some (RX17, TX17, 2) := rfl
theorem xq_14 : xcl[14]? = some (RX18, TX18, 2) := rfl
theorem xq_15 : xcl[15]? = some (RX19, TX19, 27) := rfl
theorem xq_16 : xcl[16]? = some (RJ3, TJ3, 4) := rfl
theorem xq_17 : xcl[17]? = some ("java/util/NoSuchElementException", fun _ => ("", "", "", false), 0) := rfl
theorem xno_Sign {s0 : State} {A0 : Array Value} {D : va_G} {ta : Nat → ClassId} {l : Launch} : ∀ c : Nat, ([14] : List Nat).any (fun g => Nat.beq g c) = true → c ≠ 13 ∧ ∃ q' : vw_C, xcl[c]? = some q' ∧ (XG s0 A0 D ta l → va_Nc q'.1 "WrongRoom$Sign" s0) := by
  intro c h
  obtain ⟨g, h1, h2⟩ := List.any_eq_true.mp h
  rw [List.mem_singleton.mp h1] at h2
  have e := Nat.eq_of_beq_eq_true h2
  subst e
  exact ⟨by decide, _, xq_14, fun G => G.2.2.2.2.1⟩
theorem xno_House {s0 : State} {A0 : Array Value} {D : va_G} {ta : Nat → ClassId} {l : Launch} : ∀ c : Nat, ([12] : List Nat).any (fun g => Nat.beq g c) = true → c ≠ 11 ∧ ∃ q' : vw_C, xcl[c]? = some q' ∧ (XG s0 A0 D ta l → va_Nc q'.1 "WrongRoom$House" s0) := by
  intro c h
  obtain ⟨g, h1, h2⟩ := List.any_eq_true.mp h
  rw [List.mem_singleton.mp h1] at h2
  have e := Nat.eq_of_beq_eq_true h2
  subst e
  exact ⟨by decide, _, xq_12, fun G => G.2.2.2.2.2⟩
theorem xno_String {s0 : State} {A0 : Array Value} {D : va_G} {ta : Nat → ClassId} {l : Launch} : ∀ c : Nat, ([] : List Nat).any (fun g => Nat.beq g c) = true → c ≠ 16 ∧ ∃ q' : vw_C, xcl[c]? = some q' ∧ (XG s0 A0 D ta l → va_Nc q'.1 "java/lang/String" s0) := by
  intro c h
  cases h
theorem xB_0 : xbytes 0 = method_3_code := rfl
theorem xB_1 : xbytes 1 = prog_1_method_6_code := rfl
theorem xB_2 : xbytes 2 = prog_1_method_10_code := rfl
theorem xB_3 : xbytes 3 = prog_1_method_11_code := rfl
theorem xB_4 : xbytes 4 = prog_1_method_12_code := rfl
theorem xB_5 : xbytes 5 = prog_1_method_7_code := rfl
theorem xB_6 : xbytes 6 = prog_1_method_1_code := rfl
theorem xB_7 : xbytes 7 = prog_1_method_8_code := rfl
theorem xB_8 : xbytes 8 = prog_1_method_13_code := rfl
theorem xB_9 : xbytes 9 = prog_1_method_14_code := rfl
theorem xB_10 : xbytes 10 = prog_1_method_17_code := rfl
theorem xB_11 : xbytes 11 = prog_1_method_15_code := rfl
theorem xB_12 : xbytes 12 = prog_1_method_2_code := rfl
theorem xB_13 : xbytes 13 = prog_1_method_19_code := rfl
theorem xB_14 : xbytes 14 = prog_1_method_18_code := rfl
theorem xB_15 : xbytes 15 = prog_1_method_20_code := rfl
theorem xB_16 : xbytes 16 = prog_1_method_21_code := rfl
theorem xB_17 : xbytes 17 = prog_1_method_16_code := rfl
theorem xB_18 : xbytes 18 = prog_1_method_23_code := rfl
theorem xB_19 : xbytes 19 = prog_1_method_22_code := rfl
theorem xB_20 : xbytes 20 = prog_1_method_24_code := rfl
theorem xB_21 : xbytes 21 = prog_1_method_25_code := rfl
theorem xB_22 : xbytes 22 = prog_1_method_26_code := rfl
theorem xB_23 : xbytes 23 = prog_1_method_29_code := rfl
theorem xB_24 : xbytes 24 = prog_1_method_27_code := rfl
theorem xB_25 : xbytes 25 = prog_1_method_28_code := rfl
theorem xB_26 : xbytes 26 = prog_1_method_30_code := rfl
theorem xB_27 : xbytes 27 = prog_1_method_31_code := rfl
theorem xB_28 : xbytes 28 = prog_1_method_32_code := rfl
theorem xB_29 : xbytes 29 = prog_1_method_33_code := rfl
theorem xB_30 : xbytes 30 = prog_1_method_34_code := rfl
theorem xB_31 : xbytes 31 = prog_1_method_35_code := rfl
theorem xB_32 : xbytes 32 = prog_1_method_36_code := rfl
theorem xB_33 : xbytes 33 = prog_1_method_37_code := rfl
theorem xB_34 : xbytes 34 = prog_1_method_39_code := rfl
theorem xB_35 : xbytes 35 = prog_1_method_38_code := rfl
theorem xB_36 : xbytes 36 = prog_1_method_40_code := rfl
theorem xB_37 : xbytes 37 = prog_1_method_42_code := rfl
theorem xB_38 : xbytes 38 = prog_1_method_5_code := rfl
theorem xB_39 : xbytes 39 = prog_1_method_4_code := rfl
theorem xB_40 : xbytes 40 = prog_1_method_41_code := rfl
theorem xB_41 : xbytes 41 = prog_1_method_43_code := rfl
theorem xB_42 : xbytes 42 = prog_1_method_44_code := rfl
theorem xB_43 : xbytes 43 = prog_1_method_45_code := rfl
theorem xB_44 : xbytes 44 = prog_1_method_3_code := rfl
theorem xB_45 : xbytes 45 = prog_1_method_46_code := rfl
theorem xB_46 : xbytes 46 = prog_1_method_47_code := rfl
theorem xB_47 : xbytes 47 = prog_1_method_49_code := rfl
theorem xB_48 : xbytes 48 = prog_1_method_48_code := rfl
theorem xB_49 : xbytes 49 = prog_1_method_52_code := rfl
theorem xB_50 : xbytes 50 = prog_1_method_51_code := rfl
theorem xB_51 : xbytes 51 = prog_1_method_50_code := rfl
theorem xB_52 : xbytes 52 = prog_1_method_55_code := rfl
theorem xB_53 : xbytes 53 = prog_1_method_54_code := rfl
theorem xB_54 : xbytes 54 = prog_1_method_53_code := rfl
theorem xB_55 : xbytes 55 = prog_1_method_56_code := rfl
theorem xB_56 : xbytes 56 = prog_1_method_58_code := rfl
theorem xB_57 : xbytes 57 = prog_1_method_57_code := rfl
theorem xB_58 : xbytes 58 = prog_1_method_59_code := rfl
theorem xB_59 : xbytes 59 = prog_1_method_62_code := rfl
theorem xB_60 : xbytes 60 = prog_1_method_9_code := rfl
theorem xB_61 : xbytes 61 = prog_1_method_60_code := rfl
theorem xB_62 : xbytes 62 = prog_1_method_61_code := rfl
theorem xB_63 : xbytes 63 = prog_1_method_63_code := rfl
theorem xB_64 : xbytes 64 = prog_1_method_64_code := rfl
theorem xB_65 : xbytes 65 = prog_1_method_65_code := rfl
theorem xB_66 : xbytes 66 = prog_1_method_66_code := rfl
theorem xB_67 : xbytes 67 = prog_1_method_67_code := rfl
theorem xB_68 : xbytes 68 = prog_1_method_68_code := rfl
theorem xB_69 : xbytes 69 = prog_1_method_71_code := rfl
theorem xB_70 : xbytes 70 = prog_1_method_70_code := rfl
theorem xB_71 : xbytes 71 = prog_1_method_72_code := rfl
theorem xB_72 : xbytes 72 = prog_1_method_69_code := rfl
theorem xB_73 : xbytes 73 = prog_11_method_1_code := rfl
theorem xB_74 : xbytes 74 = prog_11_method_17_code := rfl
theorem xB_75 : xbytes 75 = prog_11_method_6_code := rfl
theorem xB_76 : xbytes 76 = prog_11_method_3_code := rfl
theorem xB_77 : xbytes 77 = prog_11_method_4_code := rfl
theorem xB_78 : xbytes 78 = prog_11_method_5_code := rfl
theorem xB_79 : xbytes 79 = prog_11_method_18_code := rfl
theorem xB_80 : xbytes 80 = prog_11_method_2_code := rfl
theorem xB_81 : xbytes 81 = prog_11_method_19_code := rfl
theorem xB_82 : xbytes 82 = prog_11_method_15_code := rfl
theorem xB_83 : xbytes 83 = prog_11_method_8_code := rfl
theorem xB_84 : xbytes 84 = prog_11_method_7_code := rfl
theorem xB_85 : xbytes 85 = prog_11_method_14_code := rfl
theorem xB_86 : xbytes 86 = prog_11_method_20_code := rfl
theorem xB_87 : xbytes 87 = prog_11_method_16_code := rfl
theorem xB_88 : xbytes 88 = prog_11_method_10_code := rfl
theorem xB_89 : xbytes 89 = prog_11_method_9_code := rfl
theorem xB_90 : xbytes 90 = prog_11_method_11_code := rfl
theorem xB_91 : xbytes 91 = prog_11_method_21_code := rfl
theorem xB_92 : xbytes 92 = prog_11_method_12_code := rfl
theorem xB_93 : xbytes 93 = prog_11_method_22_code := rfl
theorem xB_94 : xbytes 94 = prog_11_method_23_code := rfl
theorem xB_95 : xbytes 95 = prog_11_method_13_code := rfl
theorem xB_96 : xbytes 96 = prog_11_method_24_code := rfl
theorem xB_97 : xbytes 97 = prog_11_method_26_code := rfl
theorem xB_98 : xbytes 98 = prog_11_method_25_code := rfl
theorem xB_99 : xbytes 99 = prog_11_method_27_code := rfl
theorem xB_100 : xbytes 100 = prog_32_method_5_code := rfl
theorem xB_101 : xbytes 101 = prog_24_method_5_code := rfl
theorem xB_102 : xbytes 102 = prog_26_method_5_code := rfl
theorem xB_103 : xbytes 103 = prog_12_method_1_code := rfl
theorem xB_104 : xbytes 104 = prog_12_method_2_code := rfl
theorem xB_105 : xbytes 105 = prog_13_method_1_code := rfl
theorem xB_106 : xbytes 106 = prog_13_method_2_code := rfl
theorem xB_107 : xbytes 107 = prog_13_method_5_code := rfl
theorem xB_108 : xbytes 108 = prog_13_method_4_code := rfl
theorem xB_109 : xbytes 109 = prog_13_method_7_code := rfl
theorem xB_110 : xbytes 110 = prog_13_method_6_code := rfl
theorem xB_111 : xbytes 111 = prog_13_method_11_code := rfl
theorem xB_112 : xbytes 112 = prog_13_method_3_code := rfl
theorem xB_113 : xbytes 113 = prog_13_method_8_code := rfl
theorem xB_114 : xbytes 114 = prog_13_method_9_code := rfl
theorem xB_115 : xbytes 115 = prog_13_method_10_code := rfl
theorem xB_116 : xbytes 116 = prog_17_method_1_code := rfl
theorem xB_117 : xbytes 117 = prog_17_method_2_code := rfl
theorem xB_118 : xbytes 118 = prog_17_method_3_code := rfl
theorem xB_119 : xbytes 119 = prog_17_method_4_code := rfl
theorem xB_120 : xbytes 120 = prog_17_method_5_code := rfl
theorem xB_121 : xbytes 121 = prog_5_method_1_code := rfl
theorem xB_122 : xbytes 122 = prog_3_method_1_code := rfl
theorem xB_123 : xbytes 123 = prog_3_method_2_code := rfl
theorem xB_124 : xbytes 124 = prog_2_method_1_code := rfl
theorem xB_125 : xbytes 125 = prog_2_method_2_code := rfl
theorem xB_126 : xbytes 126 = prog_14_method_1_code := rfl
theorem xB_127 : xbytes 127 = prog_14_method_2_code := rfl
theorem xB_128 : xbytes 128 = prog_14_method_3_code := rfl
theorem xB_129 : xbytes 129 = prog_14_method_4_code := rfl
theorem xB_130 : xbytes 130 = prog_14_method_5_code := rfl
theorem xB_131 : xbytes 131 = prog_14_method_6_code := rfl
theorem xB_132 : xbytes 132 = prog_14_method_7_code := rfl
theorem xB_133 : xbytes 133 = prog_14_method_8_code := rfl
theorem xB_134 : xbytes 134 = prog_4_method_1_code := rfl
theorem xB_135 : xbytes 135 = prog_4_method_2_code := rfl
theorem xB_136 : xbytes 136 = prog_4_method_3_code := rfl
theorem xB_137 : xbytes 137 = prog_4_method_4_code := rfl
theorem xB_138 : xbytes 138 = prog_19_method_1_code := rfl
theorem xB_139 : xbytes 139 = prog_19_method_2_code := rfl
theorem xB_140 : xbytes 140 = prog_19_method_41_code := rfl
theorem xB_141 : xbytes 141 = prog_19_method_42_code := rfl
theorem xB_142 : xbytes 142 = prog_19_method_3_code := rfl
theorem xB_143 : xbytes 143 = prog_19_method_16_code := rfl
theorem xB_144 : xbytes 144 = prog_19_method_12_code := rfl
theorem xB_145 : xbytes 145 = prog_19_method_13_code := rfl
theorem xB_146 : xbytes 146 = prog_19_method_14_code := rfl
theorem xB_147 : xbytes 147 = prog_19_method_31_code := rfl
theorem xB_148 : xbytes 148 = prog_19_method_32_code := rfl
theorem xB_149 : xbytes 149 = prog_19_method_18_code := rfl
theorem xB_150 : xbytes 150 = prog_19_method_15_code := rfl
theorem xB_151 : xbytes 151 = prog_19_method_33_code := rfl
theorem xB_152 : xbytes 152 = prog_19_method_17_code := rfl
theorem xB_153 : xbytes 153 = prog_19_method_22_code := rfl
theorem xB_154 : xbytes 154 = prog_19_method_20_code := rfl
theorem xB_155 : xbytes 155 = prog_19_method_21_code := rfl
theorem xB_156 : xbytes 156 = prog_19_method_7_code := rfl
theorem xB_157 : xbytes 157 = prog_19_method_34_code := rfl
theorem xB_158 : xbytes 158 = prog_19_method_25_code := rfl
theorem xB_159 : xbytes 159 = prog_19_method_26_code := rfl
theorem xB_160 : xbytes 160 = prog_19_method_24_code := rfl
theorem xB_161 : xbytes 161 = prog_19_method_23_code := rfl
theorem xB_162 : xbytes 162 = prog_19_method_27_code := rfl
theorem xB_163 : xbytes 163 = prog_19_method_35_code := rfl
theorem xB_164 : xbytes 164 = prog_19_method_28_code := rfl
theorem xB_165 : xbytes 165 = prog_19_method_36_code := rfl
theorem xB_166 : xbytes 166 = prog_19_method_37_code := rfl
theorem xB_167 : xbytes 167 = prog_19_method_29_code := rfl
theorem xB_168 : xbytes 168 = prog_19_method_38_code := rfl
theorem xB_169 : xbytes 169 = prog_19_method_30_code := rfl
theorem xB_170 : xbytes 170 = prog_19_method_39_code := rfl
theorem xB_171 : xbytes 171 = prog_19_method_40_code := rfl
theorem xB_172 : xbytes 172 = prog_19_method_19_code := rfl
theorem xB_173 : xbytes 173 = prog_19_method_94_code := rfl
theorem xB_174 : xbytes 174 = prog_19_method_5_code := rfl
theorem xB_175 : xbytes 175 = prog_19_method_43_code := rfl
theorem xB_176 : xbytes 176 = prog_19_method_44_code := rfl
theorem xB_177 : xbytes 177 = prog_19_method_52_code := rfl
theorem xB_178 : xbytes 178 = prog_19_method_45_code := rfl
theorem xB_179 : xbytes 179 = prog_19_method_53_code := rfl
theorem xB_180 : xbytes 180 = prog_19_method_8_code := rfl
theorem xB_181 : xbytes 181 = prog_19_method_54_code := rfl
theorem xB_182 : xbytes 182 = prog_19_method_51_code := rfl
theorem xB_183 : xbytes 183 = prog_19_method_55_code := rfl
theorem xB_184 : xbytes 184 = prog_19_method_56_code := rfl
theorem xB_185 : xbytes 185 = prog_19_method_46_code := rfl
theorem xB_186 : xbytes 186 = prog_19_method_57_code := rfl
theorem xB_187 : xbytes 187 = prog_19_method_58_code := rfl
theorem xB_188 : xbytes 188 = prog_19_method_59_code := rfl
theorem xB_189 : xbytes 189 = prog_19_method_47_code := rfl
theorem xB_190 : xbytes 190 = prog_19_method_48_code := rfl
theorem xB_191 : xbytes 191 = prog_19_method_60_code := rfl
theorem xB_192 : xbytes 192 = prog_19_method_67_code := rfl
theorem xB_193 : xbytes 193 = prog_19_method_66_code := rfl
theorem xB_194 : xbytes 194 = prog_19_method_65_code := rfl
theorem xB_195 : xbytes 195 = prog_19_method_62_code := rfl
theorem xB_196 : xbytes 196 = prog_19_method_64_code := rfl
theorem xB_197 : xbytes 197 = prog_19_method_63_code := rfl
theorem xB_198 : xbytes 198 = prog_19_method_61_code := rfl
theorem xB_199 : xbytes 199 = prog_19_method_68_code := rfl
theorem xB_200 : xbytes 200 = prog_19_method_69_code := rfl
theorem xB_201 : xbytes 201 = prog_19_method_70_code := rfl
theorem xB_202 : xbytes 202 = prog_19_method_71_code := rfl
theorem xB_203 : xbytes 203 = prog_19_method_75_code := rfl
theorem xB_204 : xbytes 204 = prog_19_method_72_code := rfl
theorem xB_205 : xbytes 205 = prog_19_method_74_code := rfl
theorem xB_206 : xbytes 206 = prog_19_method_73_code := rfl
theorem xB_207 : xbytes 207 = prog_19_method_76_code := rfl
theorem xB_208 : xbytes 208 = prog_19_method_77_code := rfl
theorem xB_209 : xbytes 209 = prog_19_method_78_code := rfl
theorem xB_210 : xbytes 210 = prog_19_method_80_code := rfl
theorem xB_211 : xbytes 211 = prog_19_method_79_code := rfl
theorem xB_212 : xbytes 212 = prog_19_method_81_code := rfl
theorem xB_213 : xbytes 213 = prog_19_method_84_code := rfl
theorem xB_214 : xbytes 214 = prog_19_method_82_code := rfl
theorem xB_215 : xbytes 215 = prog_19_method_83_code := rfl
theorem xB_216 : xbytes 216 = prog_19_method_11_code := rfl
theorem xB_217 : xbytes 217 = prog_19_method_10_code := rfl
theorem xB_218 : xbytes 218 = prog_19_method_85_code := rfl
theorem xB_219 : xbytes 219 = prog_19_method_86_code := rfl
theorem xB_220 : xbytes 220 = prog_19_method_91_code := rfl
theorem xB_221 : xbytes 221 = prog_19_method_87_code := rfl
theorem xB_222 : xbytes 222 = prog_19_method_88_code := rfl
theorem xB_223 : xbytes 223 = prog_19_method_89_code := rfl
theorem xB_224 : xbytes 224 = prog_19_method_49_code := rfl
theorem xB_225 : xbytes 225 = prog_19_method_50_code := rfl
theorem xB_226 : xbytes 226 = prog_19_method_9_code := rfl
theorem xB_227 : xbytes 227 = prog_19_method_90_code := rfl
theorem xB_228 : xbytes 228 = prog_19_method_92_code := rfl
theorem xB_229 : xbytes 229 = prog_19_method_93_code := rfl
theorem xB_230 : xbytes 230 = prog_19_method_96_code := rfl
theorem xB_231 : xbytes 231 = prog_19_method_95_code := rfl
theorem xB_232 : xbytes 232 = prog_19_method_99_code := rfl
theorem xB_233 : xbytes 233 = prog_19_method_98_code := rfl
theorem xB_234 : xbytes 234 = prog_19_method_97_code := rfl
theorem xB_235 : xbytes 235 = prog_19_method_101_code := rfl
theorem xB_236 : xbytes 236 = prog_19_method_100_code := rfl
theorem xB_237 : xbytes 237 = prog_19_method_102_code := rfl
theorem xB_238 : xbytes 238 = prog_19_method_105_code := rfl
theorem xB_239 : xbytes 239 = prog_19_method_104_code := rfl
theorem xB_240 : xbytes 240 = prog_19_method_103_code := rfl
theorem xB_241 : xbytes 241 = prog_19_method_106_code := rfl
theorem xB_242 : xbytes 242 = prog_19_method_108_code := rfl
theorem xB_243 : xbytes 243 = prog_19_method_4_code := rfl
theorem xB_244 : xbytes 244 = prog_19_method_107_code := rfl
theorem xB_245 : xbytes 245 = prog_19_method_6_code := rfl
theorem xB_246 : xbytes 246 = prog_19_method_109_code := rfl
theorem xB_247 : xbytes 247 = prog_19_method_110_code := rfl
theorem xB_248 : xbytes 248 = prog_19_method_111_code := rfl
theorem xB_249 : xbytes 249 = prog_19_method_112_code := rfl
theorem xB_250 : xbytes 250 = prog_19_method_113_code := rfl
theorem xB_251 : xbytes 251 = prog_19_method_114_code := rfl
theorem xB_252 : xbytes 252 = prog_19_method_115_code := rfl
theorem xB_253 : xbytes 253 = prog_19_method_117_code := rfl
theorem xB_254 : xbytes 254 = prog_19_method_116_code := rfl
theorem xB_255 : xbytes 255 = prog_19_method_118_code := rfl
theorem xB_256 : xbytes 256 = prog_16_method_1_code := rfl
theorem xB_257 : xbytes 257 = prog_16_method_2_code := rfl
theorem xB_258 : xbytes 258 = prog_16_method_3_code := rfl
theorem xB_259 : xbytes 259 = prog_16_method_4_code := rfl
theorem xB_260 : xbytes 260 = prog_16_method_5_code := rfl
theorem xB_261 : xbytes 261 = prog_27_method_4_code := rfl
theorem xB_262 : xbytes 262 = prog_27_method_5_code := rfl
theorem xB_263 : xbytes 263 = prog_27_method_157_code := rfl
theorem xB_264 : xbytes 264 = prog_27_method_149_code := rfl
theorem xB_265 : xbytes 265 = prog_27_method_78_code := rfl
theorem xB_266 : xbytes 266 = prog_27_method_154_code := rfl
theorem xB_267 : xbytes 267 = prog_27_method_66_code := rfl
theorem xB_268 : xbytes 268 = prog_27_method_54_code := rfl
theorem xB_269 : xbytes 269 = prog_27_method_152_code := rfl
theorem xB_270 : xbytes 270 = prog_27_method_56_code := rfl
theorem xB_271 : xbytes 271 = prog_27_method_155_code := rfl
theorem xB_272 : xbytes 272 = prog_38_method_13_code := rfl
theorem xB_273 : xbytes 273 = prog_38_method_11_code := rfl
theorem xB_274 : xbytes 274 = prog_29_method_16_code := rfl
theorem xB_275 : xbytes 275 = prog_29_method_21_code := rfl
theorem xB_276 : xbytes 276 = prog_29_method_15_code := rfl
theorem xB_277 : xbytes 277 = prog_28_method_21_code := rfl
theorem xB_278 : xbytes 278 = prog_28_method_13_code := rfl
theorem xB_279 : xbytes 279 = prog_28_method_2_code := rfl
theorem xB_280 : xbytes 280 = prog_37_method_4_code := rfl
theorem xB_281 : xbytes 281 = prog_37_method_5_code := rfl
theorem xB_282 : xbytes 282 = prog_7_method_1_code := rfl
theorem xB_283 : xbytes 283 = prog_6_method_1_code := rfl
theorem xB_284 : xbytes 284 = prog_6_method_2_code := rfl
theorem xB_285 : xbytes 285 = prog_10_method_1_code := rfl
theorem xB_286 : xbytes 286 = prog_9_method_1_code := rfl
theorem xB_287 : xbytes 287 = prog_15_method_1_code := rfl
theorem xB_288 : xbytes 288 = prog_15_method_2_code := rfl
theorem xB_289 : xbytes 289 = prog_8_method_1_code := rfl
theorem xB_290 : xbytes 290 = prog_8_method_2_code := rfl
theorem xB_291 : xbytes 291 = prog_20_method_1_code := rfl
theorem xB_292 : xbytes 292 = prog_20_method_2_code := rfl
theorem xB_293 : xbytes 293 = prog_20_method_3_code := rfl
theorem xB_294 : xbytes 294 = prog_20_method_4_code := rfl
theorem xB_295 : xbytes 295 = prog_20_method_5_code := rfl
theorem xB_296 : xbytes 296 = prog_20_method_6_code := rfl
theorem xB_297 : xbytes 297 = cL_law := rfl
theorem xfd_0 : parseFieldDescriptor (xfr 0).2.2.1 = some (.array (.byte)) := by decide +kernel
theorem xfd_1 : parseFieldDescriptor (xfr 1).2.2.1 = some (.int) := by decide +kernel
theorem xfd_2 : parseFieldDescriptor (xfr 2).2.2.1 = some (.object "WrongRoom$Reader") := by decide +kernel
theorem xfd_3 : parseFieldDescriptor (xfr 3).2.2.1 = some (.object "WrongRoom$Town") := by decide +kernel
theorem xfd_4 : parseFieldDescriptor (xfr 4).2.2.1 = some (.int) := by decide +kernel
theorem xfd_5 : parseFieldDescriptor (xfr 5).2.2.1 = some (.int) := by decide +kernel
theorem xfd_6 : parseFieldDescriptor (xfr 6).2.2.1 = some (.int) := by decide +kernel
theorem xfd_7 : parseFieldDescriptor (xfr 7).2.2.1 = some (.int) := by decide +kernel
theorem xfd_8 : parseFieldDescriptor (xfr 8).2.2.1 = some (.int) := by decide +kernel
theorem xfd_9 : parseFieldDescriptor (xfr 9).2.2.1 = some (.object "WrongRoom$Rooms") := by decide +kernel
theorem xfd_10 : parseFieldDescriptor (xfr 10).2.2.1 = some (.object "WrongRoom$Rooms") := by decide +kernel
theorem xfd_11 : parseFieldDescriptor (xfr 11).2.2.1 = some (.object "WrongRoom$Rooms") := by decide +kernel
theorem xfd_12 : parseFieldDescriptor (xfr 12).2.2.1 = some (.object "WrongRoom$Ways") := by decide +kernel
theorem xfd_13 : parseFieldDescriptor (xfr 13).2.2.1 = some (.object "WrongRoom$Going") := by decide +kernel
theorem xfd_14 : parseFieldDescriptor (xfr 14).2.2.1 = some (.object "WrongRoom$Going") := by decide +kernel
theorem xfd_15 : parseFieldDescriptor (xfr 15).2.2.1 = some (.object "WrongRoom$Rows") := by decide +kernel
theorem xfd_16 : parseFieldDescriptor (xfr 16).2.2.1 = some (.object "WrongRoom$Exchanges") := by decide +kernel
theorem xfd_17 : parseFieldDescriptor (xfr 17).2.2.1 = some (.array (.object "WrongRoom$Rooms")) := by decide +kernel
theorem xfd_18 : parseFieldDescriptor (xfr 18).2.2.1 = some (.array (.object "WrongRoom$Rooms")) := by decide +kernel
theorem xfd_19 : parseFieldDescriptor (xfr 19).2.2.1 = some (.array (.int)) := by decide +kernel
theorem xfd_20 : parseFieldDescriptor (xfr 20).2.2.1 = some (.int) := by decide +kernel
theorem xfd_21 : parseFieldDescriptor (xfr 21).2.2.1 = some (.object "WrongRoom$Refused") := by decide +kernel
theorem xfd_22 : parseFieldDescriptor (xfr 22).2.2.1 = some (.array (.byte)) := by decide +kernel
theorem xfd_23 : parseFieldDescriptor (xfr 23).2.2.1 = some (.array (.char)) := by decide +kernel
theorem xfd_24 : parseFieldDescriptor (xfr 24).2.2.1 = some (.int) := by decide +kernel
theorem xfd_25 : parseFieldDescriptor (xfr 25).2.2.1 = some (.int) := by decide +kernel
theorem xfd_26 : parseFieldDescriptor (xfr 26).2.2.1 = some (.int) := by decide +kernel
theorem xfd_27 : parseFieldDescriptor (xfr 27).2.2.1 = some (.int) := by decide +kernel
theorem xfd_28 : parseFieldDescriptor (xfr 28).2.2.1 = some (.int) := by decide +kernel
theorem xfd_29 : parseFieldDescriptor (xfr 29).2.2.1 = some (.object "java/lang/String") := by decide +kernel
theorem xfd_30 : parseFieldDescriptor (xfr 30).2.2.1 = some (.object "WrongRoom$Town") := by decide +kernel
theorem xfd_31 : parseFieldDescriptor (xfr 31).2.2.1 = some (.boolean) := by decide +kernel
theorem xfd_32 : parseFieldDescriptor (xfr 32).2.2.1 = some (.object "java/lang/Throwable") := by decide +kernel
theorem xfd_33 : parseFieldDescriptor (xfr 33).2.2.1 = some (.array (.object "java/lang/StackTraceElement")) := by decide +kernel
theorem xfd_34 : parseFieldDescriptor (xfr 34).2.2.1 = some (.object "java/util/List") := by decide +kernel
theorem xfd_35 : parseFieldDescriptor (xfr 35).2.2.1 = some (.object "java/lang/String") := by decide +kernel
theorem xfd_38 : parseFieldDescriptor (xfr 38).2.2.1 = some (.int) := by decide +kernel
theorem xfd_39 : parseFieldDescriptor (xfr 39).2.2.1 = some (.int) := by decide +kernel
theorem xfd_40 : parseFieldDescriptor (xfr 40).2.2.1 = some (.array (.int)) := by decide +kernel
theorem xfd_41 : parseFieldDescriptor (xfr 41).2.2.1 = some (.array (.int)) := by decide +kernel
theorem xfd_42 : parseFieldDescriptor (xfr 42).2.2.1 = some (.array (.int)) := by decide +kernel
theorem xfd_43 : parseFieldDescriptor (xfr 43).2.2.1 = some (.object "WrongRoom$Town") := by decide +kernel
theorem xfd_44 : parseFieldDescriptor (xfr 44).2.2.1 = some (.int) := by decide +kernel
theorem xfd_45 : parseFieldDescriptor (xfr 45).2.2.1 = some (.array (.int)) := by decide +kernel
theorem xfd_46 : parseFieldDescriptor (xfr 46).2.2.1 = some (.array (.int)) := by decide +kernel
theorem xfd_47 : parseFieldDescriptor (xfr 47).2.2.1 = some (.object "WrongRoom$Town") := by decide +kernel
theorem xfd_48 : parseFieldDescriptor (xfr 48).2.2.1 = some (.object "WrongRoom$Rooms") := by decide +kernel
theorem xfd_49 : parseFieldDescriptor (xfr 49).2.2.1 = some (.object "WrongRoom$Going") := by decide +kernel
theorem xfd_50 : parseFieldDescriptor (xfr 50).2.2.1 = some (.int) := by decide +kernel
theorem xfd_51 : parseFieldDescriptor (xfr 51).2.2.1 = some (.int) := by decide +kernel
theorem xfd_52 : parseFieldDescriptor (xfr 52).2.2.1 = some (.int) := by decide +kernel
theorem xfd_53 : parseFieldDescriptor (xfr 53).2.2.1 = some (.array (.int)) := by decide +kernel
theorem xfd_54 : parseFieldDescriptor (xfr 54).2.2.1 = some (.array (.int)) := by decide +kernel
theorem xfd_55 : parseFieldDescriptor (xfr 55).2.2.1 = some (.array (.int)) := by decide +kernel
theorem xfd_56 : parseFieldDescriptor (xfr 56).2.2.1 = some (.array (.int)) := by decide +kernel
theorem xfd_57 : parseFieldDescriptor (xfr 57).2.2.1 = some (.object "WrongRoom$Town") := by decide +kernel
theorem xfd_58 : parseFieldDescriptor (xfr 58).2.2.1 = some (.object "WrongRoom$Rooms") := by decide +kernel
theorem xfd_59 : parseFieldDescriptor (xfr 59).2.2.1 = some (.int) := by decide +kernel
theorem xfd_60 : parseFieldDescriptor (xfr 60).2.2.1 = some (.array (.object "WrongRoom$Rooms")) := by decide +kernel
theorem xfd_61 : parseFieldDescriptor (xfr 61).2.2.1 = some (.array (.int)) := by decide +kernel
theorem xfd_62 : parseFieldDescriptor (xfr 62).2.2.1 = some (.array (.int)) := by decide +kernel
theorem xfd_63 : parseFieldDescriptor (xfr 63).2.2.1 = some (.object "WrongRoom$Town") := by decide +kernel
theorem xfd_64 : parseFieldDescriptor (xfr 64).2.2.1 = some (.int) := by decide +kernel
theorem xfd_65 : parseFieldDescriptor (xfr 65).2.2.1 = some (.int) := by decide +kernel
theorem xfd_66 : parseFieldDescriptor (xfr 66).2.2.1 = some (.int) := by decide +kernel
theorem xfd_67 : parseFieldDescriptor (xfr 67).2.2.1 = some (.int) := by decide +kernel
theorem xfd_68 : parseFieldDescriptor (xfr 68).2.2.1 = some (.int) := by decide +kernel
theorem xfd_69 : parseFieldDescriptor (xfr 69).2.2.1 = some (.object "WrongRoomModel$Town") := by decide +kernel
theorem xfd_70 : parseFieldDescriptor (xfr 70).2.2.1 = some (.object "WrongRoomModel$Town") := by decide +kernel
theorem xfd_71 : parseFieldDescriptor (xfr 71).2.2.1 = some (.array (.byte)) := by decide +kernel
theorem xfd_72 : parseFieldDescriptor (xfr 72).2.2.1 = some (.int) := by decide +kernel
theorem xfd_73 : parseFieldDescriptor (xfr 73).2.2.1 = some (.int) := by decide +kernel
theorem xfd_74 : parseFieldDescriptor (xfr 74).2.2.1 = some (.int) := by decide +kernel
theorem xfd_75 : parseFieldDescriptor (xfr 75).2.2.1 = some (.int) := by decide +kernel
theorem xfd_76 : parseFieldDescriptor (xfr 76).2.2.1 = some (.int) := by decide +kernel
theorem xfd_77 : parseFieldDescriptor (xfr 77).2.2.1 = some (.int) := by decide +kernel
theorem xfd_78 : parseFieldDescriptor (xfr 78).2.2.1 = some (.int) := by decide +kernel
theorem xfd_79 : parseFieldDescriptor (xfr 79).2.2.1 = some (.int) := by decide +kernel
theorem xfd_80 : parseFieldDescriptor (xfr 80).2.2.1 = some (.long) := by decide +kernel
theorem xfd_81 : parseFieldDescriptor (xfr 81).2.2.1 = some (.array (.int)) := by decide +kernel
theorem xfd_82 : parseFieldDescriptor (xfr 82).2.2.1 = some (.array (.int)) := by decide +kernel
theorem xfd_83 : parseFieldDescriptor (xfr 83).2.2.1 = some (.array (.int)) := by decide +kernel
theorem xfd_84 : parseFieldDescriptor (xfr 84).2.2.1 = some (.int) := by decide +kernel
theorem xfd_85 : parseFieldDescriptor (xfr 85).2.2.1 = some (.int) := by decide +kernel
theorem xfd_86 : parseFieldDescriptor (xfr 86).2.2.1 = some (.array (.int)) := by decide +kernel
theorem xfd_87 : parseFieldDescriptor (xfr 87).2.2.1 = some (.array (.int)) := by decide +kernel
theorem xfd_88 : parseFieldDescriptor (xfr 88).2.2.1 = some (.array (.int)) := by decide +kernel
theorem xfd_89 : parseFieldDescriptor (xfr 89).2.2.1 = some (.int) := by decide +kernel
theorem xfd_90 : parseFieldDescriptor (xfr 90).2.2.1 = some (.int) := by decide +kernel
theorem xfd_91 : parseFieldDescriptor (xfr 91).2.2.1 = some (.array (.int)) := by decide +kernel
theorem xfd_92 : parseFieldDescriptor (xfr 92).2.2.1 = some (.array (.int)) := by decide +kernel
theorem xfd_93 : parseFieldDescriptor (xfr 93).2.2.1 = some (.array (.int)) := by decide +kernel
theorem xfd_94 : parseFieldDescriptor (xfr 94).2.2.1 = some (.array (.int)) := by decide +kernel
theorem xfd_95 : parseFieldDescriptor (xfr 95).2.2.1 = some (.array (.int)) := by decide +kernel
theorem xfd_96 : parseFieldDescriptor (xfr 96).2.2.1 = some (.int) := by decide +kernel
theorem xfd_97 : parseFieldDescriptor (xfr 97).2.2.1 = some (.int) := by decide +kernel
theorem xfd_98 : parseFieldDescriptor (xfr 98).2.2.1 = some (.int) := by decide +kernel
theorem xfd_99 : parseFieldDescriptor (xfr 99).2.2.1 = some (.array (.int)) := by decide +kernel
theorem xfd_100 : parseFieldDescriptor (xfr 100).2.2.1 = some (.array (.int)) := by decide +kernel
theorem xfd_101 : parseFieldDescriptor (xfr 101).2.2.1 = some (.int) := by decide +kernel
theorem xfd_102 : parseFieldDescriptor (xfr 102).2.2.1 = some (.int) := by decide +kernel
theorem xfd_103 : parseFieldDescriptor (xfr 103).2.2.1 = some (.array (.int)) := by decide +kernel
theorem xfd_104 : parseFieldDescriptor (xfr 104).2.2.1 = some (.int) := by decide +kernel
theorem xfd_105 : parseFieldDescriptor (xfr 105).2.2.1 = some (.array (.object "WrongRoom$House")) := by decide +kernel
theorem xfd_106 : parseFieldDescriptor (xfr 106).2.2.1 = some (.array (.object "WrongRoom$Person")) := by decide +kernel
theorem xfd_107 : parseFieldDescriptor (xfr 107).2.2.1 = some (.array (.object "WrongRoom$Notice")) := by decide +kernel
theorem xfd_108 : parseFieldDescriptor (xfr 108).2.2.1 = some (.array (.int)) := by decide +kernel
theorem xfd_109 : parseFieldDescriptor (xfr 109).2.2.1 = some (.int) := by decide +kernel
theorem xfd_110 : parseFieldDescriptor (xfr 110).2.2.1 = some (.int) := by decide +kernel
theorem xfd_111 : parseFieldDescriptor (xfr 111).2.2.1 = some (.int) := by decide +kernel
theorem xfd_112 : parseFieldDescriptor (xfr 112).2.2.1 = some (.int) := by decide +kernel
theorem xfd_113 : parseFieldDescriptor (xfr 113).2.2.1 = some (.int) := by decide +kernel
theorem xfd_114 : parseFieldDescriptor (xfr 114).2.2.1 = some (.int) := by decide +kernel
theorem xfd_115 : parseFieldDescriptor (xfr 115).2.2.1 = some (.int) := by decide +kernel
theorem xfd_116 : parseFieldDescriptor (xfr 116).2.2.1 = some (.int) := by decide +kernel
theorem xfd_117 : parseFieldDescriptor (xfr 117).2.2.1 = some (.object "java/lang/String") := by decide +kernel
theorem xfd_118 : parseFieldDescriptor (xfr 118).2.2.1 = some (.int) := by decide +kernel
theorem xfd_119 : parseFieldDescriptor (xfr 119).2.2.1 = some (.object "java/lang/String") := by decide +kernel
theorem xfd_120 : parseFieldDescriptor (xfr 120).2.2.1 = some (.int) := by decide +kernel
theorem xfd_121 : parseFieldDescriptor (xfr 121).2.2.1 = some (.int) := by decide +kernel
theorem xfd_122 : parseFieldDescriptor (xfr 122).2.2.1 = some (.int) := by decide +kernel
theorem xfd_123 : parseFieldDescriptor (xfr 123).2.2.1 = some (.int) := by decide +kernel
theorem xfd_124 : parseFieldDescriptor (xfr 124).2.2.1 = some (.int) := by decide +kernel
theorem xfd_125 : parseFieldDescriptor (xfr 125).2.2.1 = some (.int) := by decide +kernel
theorem xfd_126 : parseFieldDescriptor (xfr 126).2.2.1 = some (.boolean) := by decide +kernel
theorem xfd_127 : parseFieldDescriptor (xfr 127).2.2.1 = some (.boolean) := by decide +kernel
theorem xfd_128 : parseFieldDescriptor (xfr 128).2.2.1 = some (.int) := by decide +kernel
theorem xfd_129 : parseFieldDescriptor (xfr 129).2.2.1 = some (.int) := by decide +kernel
theorem xfd_130 : parseFieldDescriptor (xfr 130).2.2.1 = some (.int) := by decide +kernel
theorem xfd_131 : parseFieldDescriptor (xfr 131).2.2.1 = some (.object "java/lang/String") := by decide +kernel
theorem xfd_132 : parseFieldDescriptor (xfr 132).2.2.1 = some (.int) := by decide +kernel
theorem xfd_133 : parseFieldDescriptor (xfr 133).2.2.1 = some (.int) := by decide +kernel
theorem xfd_134 : parseFieldDescriptor (xfr 134).2.2.1 = some (.int) := by decide +kernel
theorem xfd_135 : parseFieldDescriptor (xfr 135).2.2.1 = some (.int) := by decide +kernel
theorem xfd_136 : parseFieldDescriptor (xfr 136).2.2.1 = some (.int) := by decide +kernel
theorem xfd_137 : parseFieldDescriptor (xfr 137).2.2.1 = some (.int) := by decide +kernel
theorem xfd_138 : parseFieldDescriptor (xfr 138).2.2.1 = some (.int) := by decide +kernel
theorem xfd_139 : parseFieldDescriptor (xfr 139).2.2.1 = some (.int) := by decide +kernel
theorem xfd_140 : parseFieldDescriptor (xfr 140).2.2.1 = some (.int) := by decide +kernel
theorem xfd_141 : parseFieldDescriptor (xfr 141).2.2.1 = some (.int) := by decide +kernel
theorem xfd_142 : parseFieldDescriptor (xfr 142).2.2.1 = some (.int) := by decide +kernel
theorem xfd_143 : parseFieldDescriptor (xfr 143).2.2.1 = some (.array (.int)) := by decide +kernel
theorem xfd_144 : parseFieldDescriptor (xfr 144).2.2.1 = some (.array (.int)) := by decide +kernel
theorem xfd_145 : parseFieldDescriptor (xfr 145).2.2.1 = some (.array (.int)) := by decide +kernel
theorem xfd_146 : parseFieldDescriptor (xfr 146).2.2.1 = some (.array (.int)) := by decide +kernel
theorem xfd_147 : parseFieldDescriptor (xfr 147).2.2.1 = some (.array (.int)) := by decide +kernel
theorem xfd_148 : parseFieldDescriptor (xfr 148).2.2.1 = some (.array (.int)) := by decide +kernel
theorem xfd_149 : parseFieldDescriptor (xfr 149).2.2.1 = some (.array (.long)) := by decide +kernel
theorem xfd_150 : parseFieldDescriptor (xfr 150).2.2.1 = some (.array (.int)) := by decide +kernel
theorem xfd_151 : parseFieldDescriptor (xfr 151).2.2.1 = some (.array (.int)) := by decide +kernel
theorem xfd_152 : parseFieldDescriptor (xfr 152).2.2.1 = some (.array (.int)) := by decide +kernel
theorem xfd_153 : parseFieldDescriptor (xfr 153).2.2.1 = some (.array (.int)) := by decide +kernel
theorem xfd_154 : parseFieldDescriptor (xfr 154).2.2.1 = some (.array (.int)) := by decide +kernel
theorem xfd_155 : parseFieldDescriptor (xfr 155).2.2.1 = some (.array (.int)) := by decide +kernel
theorem xfd_156 : parseFieldDescriptor (xfr 156).2.2.1 = some (.array (.long)) := by decide +kernel
theorem xfd_157 : parseFieldDescriptor (xfr 157).2.2.1 = some (.array (.long)) := by decide +kernel
theorem xfd_158 : parseFieldDescriptor (xfr 158).2.2.1 = some (.array (.int)) := by decide +kernel
theorem xfd_159 : parseFieldDescriptor (xfr 159).2.2.1 = some (.array (.int)) := by decide +kernel
theorem xfd_160 : parseFieldDescriptor (xfr 160).2.2.1 = some (.array (.byte)) := by decide +kernel
theorem xfd_161 : parseFieldDescriptor (xfr 161).2.2.1 = some (.byte) := by decide +kernel
theorem xfd_162 : parseFieldDescriptor (xfr 162).2.2.1 = some (.int) := by decide +kernel
theorem xfd_163 : parseFieldDescriptor (xfr 163).2.2.1 = some (.boolean) := by decide +kernel
theorem xp_0_3 : xPar 0 3 := ⟨by decide, by decide, by decide +kernel⟩
theorem xp_1_0 : xPar 1 0 := ⟨by decide, by decide, by decide +kernel⟩
theorem xp_2_5 : xPar 2 5 := ⟨by decide, by decide, by decide +kernel⟩
theorem xp_3_1 : xPar 3 1 := ⟨by decide, by decide, by decide +kernel⟩
theorem xp_4_1 : xPar 4 1 := ⟨by decide, by decide, by decide +kernel⟩
theorem xp_5_0 : xPar 5 0 := ⟨by decide, by decide, by decide +kernel⟩
theorem xp_6_3 : xPar 6 3 := ⟨by decide, by decide, by decide +kernel⟩
theorem xp_7_1 : xPar 7 1 := ⟨by decide, by decide, by decide +kernel⟩
theorem xp_8_0 : xPar 8 0 := ⟨by decide, by decide, by decide +kernel⟩
theorem xp_9_0 : xPar 9 0 := ⟨by decide, by decide, by decide +kernel⟩
theorem xp_10_2 : xPar 10 2 := ⟨by decide, by decide, by decide +kernel⟩
theorem xp_11_1 : xPar 11 1 := ⟨by decide, by decide, by decide +kernel⟩
theorem xp_12_2 : xPar 12 2 := ⟨by decide, by decide, by decide +kernel⟩
theorem xp_13_2 : xPar 13 2 := ⟨by decide, by decide, by decide +kernel⟩
theorem xp_14_2 : xPar 14 2 := ⟨by decide, by decide, by decide +kernel⟩
theorem xp_15_2 : xPar 15 2 := ⟨by decide, by decide, by decide +kernel⟩
theorem xp_16_2 : xPar 16 2 := ⟨by decide, by decide, by decide +kernel⟩
theorem xp_17_1 : xPar 17 1 := ⟨by decide, by decide, by decide +kernel⟩
theorem xp_18_1 : xPar 18 1 := ⟨by decide, by decide, by decide +kernel⟩
theorem xp_19_2 : xPar 19 2 := ⟨by decide, by decide, by decide +kernel⟩
theorem xp_20_2 : xPar 20 2 := ⟨by decide, by decide, by decide +kernel⟩
theorem xp_21_0 : xPar 21 0 := ⟨by decide, by decide, by decide +kernel⟩
theorem xp_22_0 : xPar 22 0 := ⟨by decide, by decide, by decide +kernel⟩
theorem xp_23_3 : xPar 23 3 := ⟨by decide, by decide, by decide +kernel⟩
theorem xp_24_3 : xPar 24 3 := ⟨by decide, by decide, by decide +kernel⟩
theorem xp_25_4 : xPar 25 4 := ⟨by decide, by decide, by decide +kernel⟩
theorem xp_26_4 : xPar 26 4 := ⟨by decide, by decide, by decide +kernel⟩
theorem xp_27_3 : xPar 27 3 := ⟨by decide, by decide, by decide +kernel⟩
theorem xp_28_2 : xPar 28 2 := ⟨by decide, by decide, by decide +kernel⟩
theorem xp_29_1 : xPar 29 1 := ⟨by decide, by decide, by decide +kernel⟩
theorem xp_30_0 : xPar 30 0 := ⟨by decide, by decide, by decide +kernel⟩
theorem xp_31_1 : xPar 31 1 := ⟨by decide, by decide, by decide +kernel⟩
theorem xp_32_1 : xPar 32 1 := ⟨by decide, by decide, by decide +kernel⟩
theorem xp_33_1 : xPar 33 1 := ⟨by decide, by decide, by decide +kernel⟩
theorem xp_34_0 : xPar 34 0 := ⟨by decide, by decide, by decide +kernel⟩
theorem xp_35_0 : xPar 35 0 := ⟨by decide, by decide, by decide +kernel⟩
theorem xp_36_0 : xPar 36 0 := ⟨by decide, by decide, by decide +kernel⟩
theorem xp_37_2 : xPar 37 2 := ⟨by decide, by decide, by decide +kernel⟩
theorem xp_38_3 : xPar 38 3 := ⟨by decide, by decide, by decide +kernel⟩
theorem xp_39_2 : xPar 39 2 := ⟨by decide, by decide, by decide +kernel⟩
theorem xp_40_1 : xPar 40 1 := ⟨by decide, by decide, by decide +kernel⟩
theorem xp_41_2 : xPar 41 2 := ⟨by decide, by decide, by decide +kernel⟩
theorem xp_42_0 : xPar 42 0 := ⟨by decide, by decide, by decide +kernel⟩
theorem xp_43_0 : xPar 43 0 := ⟨by decide, by decide, by decide +kernel⟩
theorem xp_44_1 : xPar 44 1 := ⟨by decide, by decide, by decide +kernel⟩
theorem xp_45_0 : xPar 45 0 := ⟨by decide, by decide, by decide +kernel⟩
theorem xp_46_1 : xPar 46 1 := ⟨by decide, by decide, by decide +kernel⟩
theorem xp_47_1 : xPar 47 1 := ⟨by decide, by decide, by decide +kernel⟩
theorem xp_48_1 : xPar 48 1 := ⟨by decide, by decide, by decide +kernel⟩
theorem xp_49_5 : xPar 49 5 := ⟨by decide, by decide, by decide +kernel⟩
theorem xp_50_4 : xPar 50 4 := ⟨by decide, by decide, by decide +kernel⟩
theorem xp_51_2 : xPar 51 2 := ⟨by decide, by decide, by decide +kernel⟩
theorem xp_52_2 : xPar 52 2 := ⟨by decide, by decide, by decide +kernel⟩
theorem xp_53_2 : xPar 53 2 := ⟨by decide, by decide, by decide +kernel⟩
theorem xp_54_4 : xPar 54 4 := ⟨by decide, by decide, by decide +kernel⟩
theorem xp_55_2 : xPar 55 2 := ⟨by decide, by decide, by decide +kernel⟩
theorem xp_56_2 : xPar 56 2 := ⟨by decide, by decide, by decide +kernel⟩
theorem xp_57_3 : xPar 57 3 := ⟨by decide, by decide, by decide +kernel⟩
theorem xp_58_3 : xPar 58 3 := ⟨by decide, by decide, by decide +kernel⟩
theorem xp_59_2 : xPar 59 2 := ⟨by decide, by decide, by decide +kernel⟩
theorem xp_60_1 : xPar 60 1 := ⟨by decide, by decide, by decide +kernel⟩
theorem xp_61_0 : xPar 61 0 := ⟨by decide, by decide, by decide +kernel⟩
theorem xp_62_0 : xPar 62 0 := ⟨by decide, by decide, by decide +kernel⟩
theorem xp_63_2 : xPar 63 2 := ⟨by decide, by decide, by decide +kernel⟩
theorem xp_64_2 : xPar 64 2 := ⟨by decide, by decide, by decide +kernel⟩
theorem xp_65_2 : xPar 65 2 := ⟨by decide, by decide, by decide +kernel⟩
theorem xp_66_0 : xPar 66 0 := ⟨by decide, by decide, by decide +kernel⟩
theorem xp_67_0 : xPar 67 0 := ⟨by decide, by decide, by decide +kernel⟩
theorem xp_68_1 : xPar 68 1 := ⟨by decide, by decide, by decide +kernel⟩
theorem xp_69_1 : xPar 69 1 := ⟨by decide, by decide, by decide +kernel⟩
theorem xp_70_0 : xPar 70 0 := ⟨by decide, by decide, by decide +kernel⟩
theorem xp_71_0 : xPar 71 0 := ⟨by decide, by decide, by decide +kernel⟩
theorem xp_72_1 : xPar 72 1 := ⟨by decide, by decide, by decide +kernel⟩
theorem xp_73_1 : xPar 73 1 := ⟨by decide, by decide, by decide +kernel⟩
theorem xp_74_1 : xPar 74 1 := ⟨by decide, by decide, by decide +kernel⟩
theorem xp_75_0 : xPar 75 0 := ⟨by decide, by decide, by decide +kernel⟩
theorem xp_76_1 : xPar 76 1 := ⟨by decide, by decide, by decide +kernel⟩
theorem xp_77_1 : xPar 77 1 := ⟨by decide, by decide, by decide +kernel⟩
theorem xp_78_1 : xPar 78 1 := ⟨by decide, by decide, by decide +kernel⟩
theorem xp_79_0 : xPar 79 0 := ⟨by decide, by decide, by decide +kernel⟩
theorem xp_80_1 : xPar 80 1 := ⟨by decide, by decide, by decide +kernel⟩
theorem xp_81_0 : xPar 81 0 := ⟨by decide, by decide, by decide +kernel⟩
theorem xp_82_3 : xPar 82 3 := ⟨by decide, by decide, by decide +kernel⟩
theorem xp_83_1 : xPar 83 1 := ⟨by decide, by decide, by decide +kernel⟩
theorem xp_84_1 : xPar 84 1 := ⟨by decide, by decide, by decide +kernel⟩
theorem xp_85_2 : xPar 85 2 := ⟨by decide, by decide, by decide +kernel⟩
theorem xp_86_0 : xPar 86 0 := ⟨by decide, by decide, by decide +kernel⟩
theorem xp_87_1 : xPar 87 1 := ⟨by decide, by decide, by decide +kernel⟩
theorem xp_88_0 : xPar 88 0 := ⟨by decide, by decide, by decide +kernel⟩
theorem xp_89_0 : xPar 89 0 := ⟨by decide, by decide, by decide +kernel⟩
theorem xp_90_0 : xPar 90 0 := ⟨by decide, by decide, by decide +kernel⟩
theorem xp_91_0 : xPar 91 0 := ⟨by decide, by decide, by decide +kernel⟩
theorem xp_92_0 : xPar 92 0 := ⟨by decide, by decide, by decide +kernel⟩
theorem xp_93_0 : xPar 93 0 := ⟨by decide, by decide, by decide +kernel⟩
theorem xp_94_0 : xPar 94 0 := ⟨by decide, by decide, by decide +kernel⟩
theorem xp_95_0 : xPar 95 0 := ⟨by decide, by decide, by decide +kernel⟩
theorem xp_96_0 : xPar 96 0 := ⟨by decide, by decide, by decide +kernel⟩
theorem xp_97_0 : xPar 97 0 := ⟨by decide, by decide, by decide +kernel⟩
theorem xp_98_1 : xPar 98 1 := ⟨by decide, by decide, by decide +kernel⟩
theorem xp_99_0 : xPar 99 0 := ⟨by decide, by decide, by decide +kernel⟩
theorem xp_100_4 : xPar 100 4 := ⟨by decide, by decide, by decide +kernel⟩
theorem xp_101_4 : xPar 101 4 := ⟨by decide, by decide, by decide +kernel⟩
theorem xp_102_4 : xPar 102 4 := ⟨by decide, by decide, by decide +kernel⟩
theorem xp_103_0 : xPar 103 0 := ⟨by decide, by decide, by decide +kernel⟩
theorem xp_104_2 : xPar 104 2 := ⟨by decide, by decide, by decide +kernel⟩
theorem xp_105_0 : xPar 105 0 := ⟨by decide, by decide, by decide +kernel⟩
theorem xp_106_1 : xPar 106 1 := ⟨by decide, by decide, by decide +kernel⟩
theorem xp_107_1 : xPar 107 1 := ⟨by decide, by decide, by decide +kernel⟩
theorem xp_108_2 : xPar 108 2 := ⟨by decide, by decide, by decide +kernel⟩
theorem xp_109_0 : xPar 109 0 := ⟨by decide, by decide, by decide +kernel⟩
theorem xp_110_1 : xPar 110 1 := ⟨by decide, by decide, by decide +kernel⟩
theorem xp_111_2 : xPar 111 2 := ⟨by decide, by decide, by decide +kernel⟩
theorem xp_112_1 : xPar 112 1 := ⟨by decide, by decide, by decide +kernel⟩
theorem xp_113_2 : xPar 113 2 := ⟨by decide, by decide, by decide +kernel⟩
theorem xp_114_2 : xPar 114 2 := ⟨by decide, by decide, by decide +kernel⟩
theorem xp_115_3 : xPar 115 3 := ⟨by decide, by decide, by decide +kernel⟩
theorem xp_116_0 : xPar 116 0 := ⟨by decide, by decide, by decide +kernel⟩
theorem xp_117_6 : xPar 117 6 := ⟨by decide, by decide, by decide +kernel⟩
theorem xp_118_4 : xPar 118 4 := ⟨by decide, by decide, by decide +kernel⟩
theorem xp_119_0 : xPar 119 0 := ⟨by decide, by decide, by decide +kernel⟩
theorem xp_120_1 : xPar 120 1 := ⟨by decide, by decide, by decide +kernel⟩
theorem xp_121_0 : xPar 121 0 := ⟨by decide, by decide, by decide +kernel⟩
theorem xp_122_0 : xPar 122 0 := ⟨by decide, by decide, by decide +kernel⟩
theorem xp_123_5 : xPar 123 5 := ⟨by decide, by decide, by decide +kernel⟩
theorem xp_124_0 : xPar 124 0 := ⟨by decide, by decide, by decide +kernel⟩
theorem xp_125_5 : xPar 125 5 := ⟨by decide, by decide, by decide +kernel⟩
theorem xp_126_0 : xPar 126 0 := ⟨by decide, by decide, by decide +kernel⟩
theorem xp_127_2 : xPar 127 2 := ⟨by decide, by decide, by decide +kernel⟩
theorem xp_128_2 : xPar 128 2 := ⟨by decide, by decide, by decide +kernel⟩
theorem xp_129_0 : xPar 129 0 := ⟨by decide, by decide, by decide +kernel⟩
theorem xp_130_1 : xPar 130 1 := ⟨by decide, by decide, by decide +kernel⟩
theorem xp_131_1 : xPar 131 1 := ⟨by decide, by decide, by decide +kernel⟩
theorem xp_132_1 : xPar 132 1 := ⟨by decide, by decide, by decide +kernel⟩
theorem xp_133_1 : xPar 133 1 := ⟨by decide, by decide, by decide +kernel⟩
theorem xp_134_0 : xPar 134 0 := ⟨by decide, by decide, by decide +kernel⟩
theorem xp_135_2 : xPar 135 2 := ⟨by decide, by decide, by decide +kernel⟩
theorem xp_136_2 : xPar 136 2 := ⟨by decide, by decide, by decide +kernel⟩
theorem xp_137_1 : xPar 137 1 := ⟨by decide, by decide, by decide +kernel⟩
theorem xp_138_0 : xPar 138 0 := ⟨by decide, by decide, by decide +kernel⟩
theorem xp_139_0 : xPar 139 0 := ⟨by decide, by decide, by decide +kernel⟩
theorem xp_140_5 : xPar 140 5 := ⟨by decide, by decide, by decide +kernel⟩
theorem xp_141_1 : xPar 141 1 := ⟨by decide, by decide, by decide +kernel⟩
theorem xp_142_1 : xPar 142 1 := ⟨by decide, by decide, by decide +kernel⟩
theorem xp_143_0 : xPar 143 0 := ⟨by decide, by decide, by decide +kernel⟩
theorem xp_144_1 : xPar 144 1 := ⟨by decide, by decide, by decide +kernel⟩
theorem xp_145_1 : xPar 145 1 := ⟨by decide, by decide, by decide +kernel⟩
theorem xp_146_1 : xPar 146 1 := ⟨by decide, by decide, by decide +kernel⟩
theorem xp_147_0 : xPar 147 0 := ⟨by decide, by decide, by decide +kernel⟩
theorem xp_148_0 : xPar 148 0 := ⟨by decide, by decide, by decide +kernel⟩
theorem xp_149_1 : xPar 149 1 := ⟨by decide, by decide, by decide +kernel⟩
theorem xp_150_1 : xPar 150 1 := ⟨by decide, by decide, by decide +kernel⟩
theorem xp_151_0 : xPar 151 0 := ⟨by decide, by decide, by decide +kernel⟩
theorem xp_152_1 : xPar 152 1 := ⟨by decide, by decide, by decide +kernel⟩
theorem xp_153_3 : xPar 153 3 := ⟨by decide, by decide, by decide +kernel⟩
theorem xp_154_1 : xPar 154 1 := ⟨by decide, by decide, by decide +kernel⟩
theorem xp_155_2 : xPar 155 2 := ⟨by decide, by decide, by decide +kernel⟩
theorem xp_156_3 : xPar 156 3 := ⟨by decide, by decide, by decide +kernel⟩
theorem xp_157_0 : xPar 157 0 := ⟨by decide, by decide, by decide +kernel⟩
theorem xp_158_2 : xPar 158 2 := ⟨by decide, by decide, by decide +kernel⟩
theorem xp_159_0 : xPar 159 0 := ⟨by decide, by decide, by decide +kernel⟩
theorem xp_160_0 : xPar 160 0 := ⟨by decide, by decide, by decide +kernel⟩
theorem xp_161_0 : xPar 161 0 := ⟨by decide, by decide, by decide +kernel⟩
theorem xp_162_3 : xPar 162 3 := ⟨by decide, by decide, by decide +kernel⟩
theorem xp_163_0 : xPar 163 0 := ⟨by decide, by decide, by decide +kernel⟩
theorem xp_164_0 : xPar 164 0 := ⟨by decide, by decide, by decide +kernel⟩
theorem xp_165_0 : xPar 165 0 := ⟨by decide, by decide, by decide +kernel⟩
theorem xp_166_0 : xPar 166 0 := ⟨by decide, by decide, by decide +kernel⟩
theorem xp_167_0 : xPar 167 0 := ⟨by decide, by decide, by decide +kernel⟩
theorem xp_168_0 : xPar 168 0 := ⟨by decide, by decide, by decide +kernel⟩
theorem xp_169_1 : xPar 169 1 := ⟨by decide, by decide, by decide +kernel⟩
theorem xp_170_0 : xPar 170 0 := ⟨by decide, by decide, by decide +kernel⟩
theorem xp_171_0 : xPar 171 0 := ⟨by decide, by decide, by decide +kernel⟩
theorem xp_172_0 : xPar 172 0 := ⟨by decide, by decide, by decide +kernel⟩
theorem xp_173_0 : xPar 173 0 := ⟨by decide, by decide, by decide +kernel⟩
theorem xp_174_1 : xPar 174 1 := ⟨by decide, by decide, by decide +kernel⟩
theorem xp_175_0 : xPar 175 0 := ⟨by decide, by decide, by decide +kernel⟩
theorem xp_176_0 : xPar 176 0 := ⟨by decide, by decide, by decide +kernel⟩
theorem xp_177_2 : xPar 177 2 := ⟨by decide, by decide, by decide +kernel⟩
theorem xp_178_1 : xPar 178 1 := ⟨by decide, by decide, by decide +kernel⟩
theorem xp_179_1 : xPar 179 1 := ⟨by decide, by decide, by decide +kernel⟩
theorem xp_180_2 : xPar 180 2 := ⟨by decide, by decide, by decide +kernel⟩
theorem xp_181_2 : xPar 181 2 := ⟨by decide, by decide, by decide +kernel⟩
theorem xp_182_2 : xPar 182 2 := ⟨by decide, by decide, by decide +kernel⟩
theorem xp_183_2 : xPar 183 2 := ⟨by decide, by decide, by decide +kernel⟩
theorem xp_184_2 : xPar 184 2 := ⟨by decide, by decide, by decide +kernel⟩
theorem xp_185_1 : xPar 185 1 := ⟨by decide, by decide, by decide +kernel⟩
theorem xp_186_1 : xPar 186 1 := ⟨by decide, by decide, by decide +kernel⟩
theorem xp_187_2 : xPar 187 2 := ⟨by decide, by decide, by decide +kernel⟩
theorem xp_188_0 : xPar 188 0 := ⟨by decide, by decide, by decide +kernel⟩
theorem xp_189_0 : xPar 189 0 := ⟨by decide, by decide, by decide +kernel⟩
theorem xp_190_1 : xPar 190 1 := ⟨by decide, by decide, by decide +kernel⟩
theorem xp_191_0 : xPar 191 0 := ⟨by decide, by decide, by decide +kernel⟩
theorem xp_192_3 : xPar 192 3 := ⟨by decide, by decide, by decide +kernel⟩
theorem xp_193_2 : xPar 193 2 := ⟨by decide, by decide, by decide +kernel⟩
theorem xp_194_4 : xPar 194 4 := ⟨by decide, by decide, by decide +kernel⟩
theorem xp_195_4 : xPar 195 4 := ⟨by decide, by decide, by decide +kernel⟩
theorem xp_196_1 : xPar 196 1 := ⟨by decide, by decide, by decide +kernel⟩
theorem xp_197_2 : xPar 197 2 := ⟨by decide, by decide, by decide +kernel⟩
theorem xp_198_4 : xPar 198 4 := ⟨by decide, by decide, by decide +kernel⟩
theorem xp_199_4 : xPar 199 4 := ⟨by decide, by decide, by decide +kernel⟩
theorem xp_200_3 : xPar 200 3 := ⟨by decide, by decide, by decide +kernel⟩
theorem xp_201_2 : xPar 201 2 := ⟨by decide, by decide, by decide +kernel⟩
theorem xp_202_1 : xPar 202 1 := ⟨by decide, by decide, by decide +kernel⟩
theorem xp_203_0 : xPar 203 0 := ⟨by decide, by decide, by decide +kernel⟩
theorem xp_204_0 : xPar 204 0 := ⟨by decide, by decide, by decide +kernel⟩
theorem xp_205_0 : xPar 205 0 := ⟨by decide, by decide, by decide +kernel⟩
theorem xp_206_1 : xPar 206 1 := ⟨by decide, by decide, by decide +kernel⟩
theorem xp_207_1 : xPar 207 1 := ⟨by decide, by decide, by decide +kernel⟩
theorem xp_208_1 : xPar 208 1 := ⟨by decide, by decide, by decide +kernel⟩
theorem xp_209_1 : xPar 209 1 := ⟨by decide, by decide, by decide +kernel⟩
theorem xp_210_0 : xPar 210 0 := ⟨by decide, by decide, by decide +kernel⟩
theorem xp_211_0 : xPar 211 0 := ⟨by decide, by decide, by decide +kernel⟩
theorem xp_212_0 : xPar 212 0 := ⟨by decide, by decide, by decide +kernel⟩
theorem xp_213_2 : xPar 213 2 := ⟨by decide, by decide, by decide +kernel⟩
theorem xp_214_1 : xPar 214 1 := ⟨by decide, by decide, by decide +kernel⟩
theorem xp_215_1 : xPar 215 1 := ⟨by decide, by decide, by decide +kernel⟩
theorem xp_216_3 : xPar 216 3 := ⟨by decide, by decide, by decide +kernel⟩
theorem xp_217_2 : xPar 217 2 := ⟨by decide, by decide, by decide +kernel⟩
theorem xp_218_2 : xPar 218 2 := ⟨by decide, by decide, by decide +kernel⟩
theorem xp_219_0 : xPar 219 0 := ⟨by decide, by decide, by decide +kernel⟩
theorem xp_220_0 : xPar 220 0 := ⟨by decide, by decide, by decide +kernel⟩
theorem xp_221_0 : xPar 221 0 := ⟨by decide, by decide, by decide +kernel⟩
theorem xp_222_1 : xPar 222 1 := ⟨by decide, by decide, by decide +kernel⟩
theorem xp_223_1 : xPar 223 1 := ⟨by decide, by decide, by decide +kernel⟩
theorem xp_224_3 : xPar 224 3 := ⟨by decide, by decide, by decide +kernel⟩
theorem xp_225_3 : xPar 225 3 := ⟨by decide, by decide, by decide +kernel⟩
theorem xp_226_1 : xPar 226 1 := ⟨by decide, by decide, by decide +kernel⟩
theorem xp_227_1 : xPar 227 1 := ⟨by decide, by decide, by decide +kernel⟩
theorem xp_228_0 : xPar 228 0 := ⟨by decide, by decide, by decide +kernel⟩
theorem xp_229_1 : xPar 229 1 := ⟨by decide, by decide, by decide +kernel⟩
theorem xp_230_1 : xPar 230 1 := ⟨by decide, by decide, by decide +kernel⟩
theorem xp_231_2 : xPar 231 2 := ⟨by decide, by decide, by decide +kernel⟩
theorem xp_232_5 : xPar 232 5 := ⟨by decide, by decide, by decide +kernel⟩
theorem xp_233_4 : xPar 233 4 := ⟨by decide, by decide, by decide +kernel⟩
theorem xp_234_2 : xPar 234 2 := ⟨by decide, by decide, by decide +kernel⟩
theorem xp_235_2 : xPar 235 2 := ⟨by decide, by decide, by decide +kernel⟩
theorem xp_236_4 : xPar 236 4 := ⟨by decide, by decide, by decide +kernel⟩
theorem xp_237_2 : xPar 237 2 := ⟨by decide, by decide, by decide +kernel⟩
theorem xp_238_2 : xPar 238 2 := ⟨by decide, by decide, by decide +kernel⟩
theorem xp_239_3 : xPar 239 3 := ⟨by decide, by decide, by decide +kernel⟩
theorem xp_240_0 : xPar 240 0 := ⟨by decide, by decide, by decide +kernel⟩
theorem xp_241_3 : xPar 241 3 := ⟨by decide, by decide, by decide +kernel⟩
theorem xp_242_2 : xPar 242 2 := ⟨by decide, by decide, by decide +kernel⟩
theorem xp_243_1 : xPar 243 1 := ⟨by decide, by decide, by decide +kernel⟩
theorem xp_244_0 : xPar 244 0 := ⟨by decide, by decide, by decide +kernel⟩
theorem xp_245_0 : xPar 245 0 := ⟨by decide, by decide, by decide +kernel⟩
theorem xp_246_2 : xPar 246 2 := ⟨by decide, by decide, by decide +kernel⟩
theorem xp_247_2 : xPar 247 2 := ⟨by decide, by decide, by decide +kernel⟩
theorem xp_248_2 : xPar 248 2 := ⟨by decide, by decide, by decide +kernel⟩
theorem xp_249_0 : xPar 249 0 := ⟨by decide, by decide, by decide +kernel⟩
theorem xp_250_0 : xPar 250 0 := ⟨by decide, by decide, by decide +kernel⟩
theorem xp_251_1 : xPar 251 1 := ⟨by decide, by decide, by decide +kernel⟩
theorem xp_252_1 : xPar 252 1 := ⟨by decide, by decide, by decide +kernel⟩
theorem xp_253_1 : xPar 253 1 := ⟨by decide, by decide, by decide +kernel⟩
theorem xp_254_0 : xPar 254 0 := ⟨by decide, by decide, by decide +kernel⟩
theorem xp_255_0 : xPar 255 0 := ⟨by decide, by decide, by decide +kernel⟩
theorem xp_256_0 : xPar 256 0 := ⟨by decide, by decide, by decide +kernel⟩
theorem xp_257_1 : xPar 257 1 := ⟨by decide, by decide, by decide +kernel⟩
theorem xp_258_2 : xPar 258 2 := ⟨by decide, by decide, by decide +kernel⟩
theorem xp_259_0 : xPar 259 0 := ⟨by decide, by decide, by decide +kernel⟩
theorem xp_260_2 : xPar 260 2 := ⟨by decide, by decide, by decide +kernel⟩
theorem xp_261_3 : xPar 261 3 := ⟨by decide, by decide, by decide +kernel⟩
theorem xp_262_3 : xPar 262 3 := ⟨by decide, by decide, by decide +kernel⟩
theorem xp_263_3 : xPar 263 3 := ⟨by decide, by decide, by decide +kernel⟩
theorem xp_264_4 : xPar 264 4 := ⟨by decide, by decide, by decide +kernel⟩
theorem xp_265_0 : xPar 265 0 := ⟨by decide, by decide, by decide +kernel⟩
theorem xp_266_0 : xPar 266 0 := ⟨by decide, by decide, by decide +kernel⟩
theorem xp_267_1 : xPar 267 1 := ⟨by decide, by decide, by decide +kernel⟩
theorem xp_268_0 : xPar 268 0 := ⟨by decide, by decide, by decide +kernel⟩
theorem xp_269_0 : xPar 269 0 := ⟨by decide, by decide, by decide +kernel⟩
theorem xp_270_1 : xPar 270 1 := ⟨by decide, by decide, by decide +kernel⟩
theorem xp_271_2 : xPar 271 2 := ⟨by decide, by decide, by decide +kernel⟩
theorem xp_272_4 : xPar 272 4 := ⟨by decide, by decide, by decide +kernel⟩
theorem xp_273_3 : xPar 273 3 := ⟨by decide, by decide, by decide +kernel⟩
theorem xp_274_3 : xPar 274 3 := ⟨by decide, by decide, by decide +kernel⟩
theorem xp_275_5 : xPar 275 5 := ⟨by decide, by decide, by decide +kernel⟩
theorem xp_276_2 : xPar 276 2 := ⟨by decide, by decide, by decide +kernel⟩
theorem xp_277_1 : xPar 277 1 := ⟨by decide, by decide, by decide +kernel⟩
theorem xp_278_2 : xPar 278 2 := ⟨by decide, by decide, by decide +kernel⟩
theorem xp_279_2 : xPar 279 2 := ⟨by decide, by decide, by decide +kernel⟩
theorem xp_280_5 : xPar 280 5 := ⟨by decide, by decide, by decide +kernel⟩
theorem xp_281_4 : xPar 281 4 := ⟨by decide, by decide, by decide +kernel⟩
theorem xp_282_2 : xPar 282 2 := ⟨by decide, by decide, by decide +kernel⟩
theorem xp_283_2 : xPar 283 2 := ⟨by decide, by decide, by decide +kernel⟩
theorem xp_284_1 : xPar 284 1 := ⟨by decide, by decide, by decide +kernel⟩
theorem xp_285_2 : xPar 285 2 := ⟨by decide, by decide, by decide +kernel⟩
theorem xp_286_1 : xPar 286 1 := ⟨by decide, by decide, by decide +kernel⟩
theorem xp_287_2 : xPar 287 2 := ⟨by decide, by decide, by decide +kernel⟩
theorem xp_288_1 : xPar 288 1 := ⟨by decide, by decide, by decide +kernel⟩
theorem xp_289_2 : xPar 289 2 := ⟨by decide, by decide, by decide +kernel⟩
theorem xp_290_1 : xPar 290 1 := ⟨by decide, by decide, by decide +kernel⟩
theorem xp_291_0 : xPar 291 0 := ⟨by decide, by decide, by decide +kernel⟩
theorem xp_292_1 : xPar 292 1 := ⟨by decide, by decide, by decide +kernel⟩
theorem xp_293_1 : xPar 293 1 := ⟨by decide, by decide, by decide +kernel⟩
theorem xp_294_1 : xPar 294 1 := ⟨by decide, by decide, by decide +kernel⟩
theorem xp_295_2 : xPar 295 2 := ⟨by decide, by decide, by decide +kernel⟩
theorem xp_296_2 : xPar 296 2 := ⟨by decide, by decide, by decide +kernel⟩
