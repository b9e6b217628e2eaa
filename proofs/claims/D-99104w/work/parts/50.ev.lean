/-! EVIDENCE, the end: each row of the code tables is right -/
set_option maxRecDepth 100000
set_option maxHeartbeats 4000000
theorem xeG_0 {s0 : State} {A0 : Array Value} {D : va_G} {ta : Nat → ClassId} {l : Launch} : XAllG s0 A0 D ta l 0 xkG_0 := ⟨xe_0, xe_1, xe_2, xe_3, xe_4, xe_5, xe_6, xe_7, xe_8, xe_9, xe_10, xe_11, xe_12, xe_13, xe_14, xe_15, trivial⟩
theorem xeG_1 {s0 : State} {A0 : Array Value} {D : va_G} {ta : Nat → ClassId} {l : Launch} : XAllG s0 A0 D ta l 16 xkG_1 := ⟨xe_16, xe_17, xe_18, xe_19, xe_20, xe_21, xe_22, xe_23, xe_24, xe_25, xe_26, xe_27, xe_28, xe_29, xe_30, xe_31, trivial⟩
theorem xeG_2 {s0 : State} {A0 : Array Value} {D : va_G} {ta : Nat → ClassId} {l : Launch} : XAllG s0 A0 D ta l 32 xkG_2 := ⟨xe_32, xe_33, xe_34, xe_35, xe_36, xe_37, xe_38, xe_39, xe_40, xe_41, xe_42, xe_43, xe_44, xe_45, xe_46, xe_47, trivial⟩
theorem xeG_3 {s0 : State} {A0 : Array Value} {D : va_G} {ta : Nat → ClassId} {l : Launch} : XAllG s0 A0 D ta l 48 xkG_3 := ⟨xe_48, xe_49, xe_50, xe_51, xe_52, xe_53, xe_54, xe_55, xe_56, xe_57, xe_58, xe_59, xe_60, xe_61, xe_62, xe_63, trivial⟩
theorem xeG_4 {s0 : State} {A0 : Array Value} {D : va_G} {ta : Nat → ClassId} {l : Launch} : XAllG s0 A0 D ta l 64 xkG_4 := ⟨xe_64, xe_65, xe_66, xe_67, xe_68, xe_69, xe_70, xe_71, xe_72, xe_73, xe_74, xe_75, xe_76, xe_77, xe_78, xe_79, trivial⟩
theorem xeG_5 {s0 : State} {A0 : Array Value} {D : va_G} {ta : Nat → ClassId} {l : Launch} : XAllG s0 A0 D ta l 80 xkG_5 := ⟨xe_80, xe_81, xe_82, xe_83, xe_84, xe_85, xe_86, xe_87, xe_88, xe_89, xe_90, xe_91, xe_92, xe_93, xe_94, xe_95, trivial⟩
theorem xeG_6 {s0 : State} {A0 : Array Value} {D : va_G} {ta : Nat → ClassId} {l : Launch} : XAllG s0 A0 D ta l 96 xkG_6 := ⟨xe_96, xe_97, xe_98, xe_99, xe_100, xe_101, xe_102, xe_103, xe_104, xe_105, xe_106, xe_107, xe_108, xe_109, xe_110, xe_111, trivial⟩
theorem xeG_7 {s0 : State} {A0 : Array Value} {D : va_G} {ta : Nat → ClassId} {l : Launch} : XAllG s0 A0 D ta l 112 xkG_7 := ⟨xe_112, xe_113, xe_114, xe_115, xe_116, xe_117, xe_118, xe_119, xe_120, xe_121, xe_122, xe_123, xe_124, xe_125, xe_126, xe_127, trivial⟩
theorem xeG_8 {s0 : State} {A0 : Array Value} {D : va_G} {ta : Nat → ClassId} {l : Launch} : XAllG s0 A0 D ta l 128 xkG_8 := ⟨xe_128, xe_129, xe_130, xe_131, xe_132, xe_133, xe_134, xe_135, xe_136, xe_137, xe_138, xe_139, xe_140, xe_141, xe_142, xe_143, trivial⟩
theorem xeG_9 {s0 : State} {A0 : Array Value} {D : va_G} {ta : Nat → ClassId} {l : Launch} : XAllG s0 A0 D ta l 144 xkG_9 := ⟨xe_144, xe_145, xe_146, xe_147, xe_148, xe_149, xe_150, xe_151, xe_152, xe_153, xe_154, xe_155, xe_156, xe_157, xe_158, xe_159, trivial⟩
theorem xeG_10 {s0 : State} {A0 : Array Value} {D : va_G} {ta : Nat → ClassId} {l : Launch} : XAllG s0 A0 D ta l 160 xkG_10 := ⟨xe_160, xe_161, xe_162, xe_163, xe_164, xe_165, xe_166, xe_167, xe_168, xe_169, xe_170, xe_171, xe_172, xe_173, xe_174, xe_175, trivial⟩
theorem xeG_11 {s0 : State} {A0 : Array Value} {D : va_G} {ta : Nat → ClassId} {l : Launch} : XAllG s0 A0 D ta l 176 xkG_11 := ⟨xe_176, xe_177, xe_178, xe_179, xe_180, xe_181, xe_182, xe_183, xe_184, xe_185, xe_186, xe_187, xe_188, xe_189, xe_190, xe_191, trivial⟩
theorem xeG_12 {s0 : State} {A0 : Array Value} {D : va_G} {ta : Nat → ClassId} {l : Launch} : XAllG s0 A0 D ta l 192 xkG_12 := ⟨xe_192, xe_193, xe_194, xe_195, xe_196, xe_197, xe_198, xe_199, xe_200, xe_201, xe_202, xe_203, xe_204, xe_205, xe_206, xe_207, trivial⟩
theorem xeG_13 {s0 : State} {A0 : Array Value} {D : va_G} {ta : Nat → ClassId} {l : Launch} : XAllG s0 A0 D ta l 208 xkG_13 := ⟨xe_208, xe_209, xe_210, xe_211, xe_212, xe_213, xe_214, xe_215, xe_216, xe_217, xe_218, xe_219, xe_220, xe_221, xe_222, xe_223, trivial⟩
theorem xeG_14 {s0 : State} {A0 : Array Value} {D : va_G} {ta : Nat → ClassId} {l : Launch} : XAllG s0 A0 D ta l 224 xkG_14 := ⟨xe_224, xe_225, xe_226, xe_227, xe_228, xe_229, xe_230, xe_231, xe_232, xe_233, xe_234, xe_235, xe_236, xe_237, xe_238, xe_239, trivial⟩
theorem xeG_15 {s0 : State} {A0 : Array Value} {D : va_G} {ta : Nat → ClassId} {l : Launch} : XAllG s0 A0 D ta l 240 xkG_15 := ⟨xe_240, xe_241, xe_242, xe_243, xe_244, xe_245, xe_246, xe_247, xe_248, xe_249, xe_250, xe_251, xe_252, xe_253, xe_254, xe_255, trivial⟩
theorem xeG_16 {s0 : State} {A0 : Array Value} {D : va_G} {ta : Nat → ClassId} {l : Launch} : XAllG s0 A0 D ta l 256 xkG_16 := ⟨xe_256, xe_257, xe_258, xe_259, xe_260, xe_261, xe_262, xe_263, xe_264, xe_265, xe_266, xe_267, xe_268, xe_269, xe_270, xe_271, trivial⟩
theorem xeG_17 {s0 : State} {A0 : Array Value} {D : va_G} {ta : Nat → ClassId} {l : Launch} : XAllG s0 A0 D ta l 272 xkG_17 := ⟨xe_272, xe_273, xe_274, xe_275, xe_276, xe_277, xe_278, xe_279, xe_280, xe_281, xe_282, xe_283, xe_284, xe_285, xe_286, xe_287, trivial⟩
theorem xeG_18 {s0 : State} {A0 : Array Value} {D : va_G} {ta : Nat → ClassId} {l : Launch} : XAllG s0 A0 D ta l 288 xkG_18 := ⟨xe_288, xe_289, xe_290, xe_291, xe_292, xe_293, xe_294, xe_295, xe_296, xe_297, trivial⟩
theorem xevT {s0 : State} {A0 : Array Value} {D : va_G} {ta : Nat → ClassId} {l : Launch} : ∀ g : Nat, XAllG s0 A0 D ta l (16 * g) (xnth [] xkT g) := by
  intro g
  match g with
  | 0 => exact xeG_0
  | 1 => exact xeG_1
  | 2 => exact xeG_2
  | 3 => exact xeG_3
  | 4 => exact xeG_4
  | 5 => exact xeG_5
  | 6 => exact xeG_6
  | 7 => exact xeG_7
  | 8 => exact xeG_8
  | 9 => exact xeG_9
  | 10 => exact xeG_10
  | 11 => exact xeG_11
  | 12 => exact xeG_12
  | 13 => exact xeG_13
  | 14 => exact xeG_14
  | 15 => exact xeG_15
  | 16 => exact xeG_16
  | 17 => exact xeG_17
  | 18 => exact xeG_18
  | _ + 19 => exact trivial
theorem xcode_ok {s0 : State} {A0 : Array Value} {D : va_G} {ta : Nat → ClassId} {l : Launch} : ∀ M pc xi, xcode M pc = some xi → XIOK s0 A0 D ta l M pc xi := by
  intro M pc xi h
  have h1 := XAllG.nth (s0 := s0) (A0 := A0) (D := D) (ta := ta) (l := l) (M % 16) (16 * (M / 16)) (xevT (M / 16))
  rw [show 16 * (M / 16) + M % 16 = M by omega] at h1
  exact XAll.lk (XAllC.nth (pc / 32) h1) h
def xplOK : Bool := (List.range 298).all fun y => plainName (xname y).cls || Nat.beq (xloc y) 0
theorem xpl_ok : xplOK = true := by decide +kernel
theorem xloc_out {y : Nat} (h : 298 ≤ y) : xloc y = 0 := by
  unfold xloc
  have h1 : y / 16 = 18 ∨ 19 ≤ y / 16 := by omega
  rcases h1 with h1 | h1
  · rw [h1]
    obtain ⟨k, hk⟩ : ∃ k, y % 16 = k + 10 := ⟨y % 16 - 10, by omega⟩
    rw [hk]
    rfl
  · obtain ⟨k, hk⟩ : ∃ k, y / 16 = k + 19 := ⟨y / 16 - 19, by omega⟩
    rw [hk]
    rfl
theorem xpl (y : Nat) : plainName (xname y).cls = true ∨ xloc y = 0 := by
  by_cases hy : y < 298
  · have h1 := List.all_eq_true.mp xpl_ok y (List.mem_range.mpr hy)
    rw [Bool.or_eq_true] at h1
    rcases h1 with q | q
    · exact Or.inl q
    · exact Or.inr (Nat.eq_of_beq_eq_true q)
  · exact Or.inr (xloc_out (by omega))
def xllOK : Bool := (List.range 298).all fun y => Nat.ble (xloc y) 32
theorem xll_ok : xllOK = true := by decide +kernel
theorem xll32 (y : Nat) : xloc y ≤ 32 := by
  by_cases hy : y < 298
  · exact Nat.le_of_ble_eq_true (List.all_eq_true.mp xll_ok y (List.mem_range.mpr hy))
  · rw [xloc_out (by omega)]
    omega
/-- every callee has locals -/
def xcyK (xi : XI) : Bool := match xi with
  | .inr (.inr (.inr (.inl k))) => k.2.2.all fun q => !Nat.beq (xloc q.2) 0
  | _ => true
def xcyOK : Bool := xkT.all fun G => G.all fun m => m.all fun c => c.all fun r => xcyK r.2
theorem xcy_ok : xcyOK = true := by decide +kernel
theorem xnth_mem {α : Type} (d : α) : ∀ (L : List α) (i : Nat), xnth d L i = d ∨ xnth d L i ∈ L := by
  intro L
  induction L with
  | nil => intro i; exact Or.inl rfl
  | cons a L ih =>
    intro i
    cases i with
    | zero => exact Or.inr List.mem_cons_self
    | succ i =>
      rcases ih i with h | h
      · exact Or.inl h
      · exact Or.inr (List.mem_cons_of_mem _ h)
theorem xlk_mem : ∀ (l : List (Nat × XI)) (pc : Nat) (xi : XI), xlk l pc = some xi → (pc, xi) ∈ l := by
  intro l
  induction l with
  | nil => intro pc xi h; cases h
  | cons a l ih =>
    intro pc xi h
    obtain ⟨k, x⟩ := a
    unfold xlk at h
    split at h
    · next hb =>
      cases h
      rw [← Nat.eq_of_beq_eq_true hb]
      exact List.mem_cons_self
    · exact List.mem_cons_of_mem _ (ih pc xi h)
theorem xcy {M pc n np : Nat} {alts : List (Option Nat × Nat)} (h : xcode M pc = some (.inr (.inr (.inr (.inl (n, np, alts)))))) : ∀ q ∈ alts, xloc q.2 ≠ 0 := by
  unfold xcode at h
  have key : ∀ (c : List (Nat × XI)) (m : List (List (Nat × XI))) (G : List (List (List (Nat × XI)))), (G = [] ∨ G ∈ xkT) → (m = [] ∨ m ∈ G) → (c = [] ∨ c ∈ m) → xlk c pc = some (.inr (.inr (.inr (.inl (n, np, alts))))) → ∀ q ∈ alts, xloc q.2 ≠ 0 := by
    intro c m G h1 h2 h3 h4 q hq
    have h5 := xlk_mem _ _ _ h4
    rcases h3 with h3 | h3
    · rw [h3] at h5; cases h5
    rcases h2 with h2 | h2
    · rw [h2] at h3; cases h3
    rcases h1 with h1 | h1
    · rw [h1] at h2; cases h2
    have k1 := List.all_eq_true.mp xcy_ok G h1
    have k2 := List.all_eq_true.mp k1 m h2
    have k3 := List.all_eq_true.mp k2 c h3
    have k4 := List.all_eq_true.mp k3 _ h5
    have k5 := List.all_eq_true.mp k4 q hq
    intro z
    rw [z] at k5
    cases k5
  exact key _ _ _ (xnth_mem _ _ _) (xnth_mem _ _ _) (xnth_mem _ _ _) h
/-- what a run of the mini-machine is of the machine, without a premise -/
theorem soundX {s0 : State} {A0 : Array Value} {D : va_G} {ta : Nat → ClassId} {l : Launch} {d M pc : Nat} {ls : XL} {st : XS} {h : XH} {o : XO} {h' : XH} (k : XRuns d M pc ls st h o h') : SemF s0 A0 D ta l d M pc ls st h o h' :=
  sound xcode_ok xpl xll32 (fun _ _ _ _ _ h => xcy h) k
