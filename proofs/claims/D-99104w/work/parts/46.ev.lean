/-! EVIDENCE: methods 100 to 149 -/
set_option maxRecDepth 100000
set_option maxHeartbeats 4000000
theorem xe_100_0 {s0 : State} {A0 : Array Value} {D : va_G} {ta : Nat → ClassId} {l : Launch} : XAll s0 A0 D ta l 100 xk_100_0 :=
  xA0 (ok_aload_n (xdd xB_100 dJ0_init_2_0) rfl rfl) <|
  xA1 (ok_obj (xdd xB_100 dJ0_init_2_1) rfl q180 q147 q148) <|
  xA0 (ok_aload_n (xdd xB_100 dJ0_init_2_4) rfl rfl) <|
  xA0 (ok_aload_n (xdd xB_100 dJ0_init_2_5) rfl rfl) <|
  xA1 (ok_putA (xdd xB_100 dJ0_init_2_6) rfl (lk_f q213) rfl xfd_32 (Or.inl ⟨_, rfl⟩) (Or.inl rfl)) <|
  xA0 (ok_aload_n (xdd xB_100 dJ0_init_2_9) rfl rfl) <|
  xA0 (ok_getsUS (xdd xB_100 dJ0_init_2_10) rfl q181) <|
  xA1 (ok_putA (xdd xB_100 dJ0_init_2_13) rfl (lk_f q214) rfl xfd_33 (Or.inr ⟨_, rfl⟩) (Or.inl rfl)) <|
  xA0 (ok_aload_n (xdd xB_100 dJ0_init_2_16) rfl rfl) <|
  xA0 (ok_getsSS (xdd xB_100 dJ0_init_2_17) rfl q183) <|
  xA1 (ok_putA (xdd xB_100 dJ0_init_2_20) rfl (lk_f q215) rfl xfd_34 (Or.inl ⟨_, rfl⟩) (Or.inl rfl)) <|
  xA0 (ok_iload (xdd xB_100 dJ0_init_2_23) rfl) <|
  xAB (ok_if_eq (xdd xB_100 dJ0_init_2_25) rfl rfl) <|
  xA0 (ok_aload_n (xdd xB_100 dJ0_init_2_28) rfl rfl) <|
  xAe
theorem xe_100_1 {s0 : State} {A0 : Array Value} {D : va_G} {ta : Nat → ClassId} {l : Launch} : XAll s0 A0 D ta l 100 xk_100_1 :=
  xA0 (ok_pop (xdd xB_100 dJ0_init_2_32) rfl) <|
  xA0 (ok_goto (xdd xB_100 dJ0_init_2_33) rfl) <|
  xA0 (ok_aload_n (xdd xB_100 dJ0_init_2_36) rfl rfl) <|
  xA0 (ok_null (xdd xB_100 dJ0_init_2_37) rfl) <|
  xA1 (ok_putA (xdd xB_100 dJ0_init_2_38) rfl (lk_f q214) rfl xfd_33 (Or.inr ⟨_, rfl⟩) (Or.inl rfl)) <|
  xA0 (ok_aload_n (xdd xB_100 dJ0_init_2_41) rfl rfl) <|
  xA0 (ok_aload_n (xdd xB_100 dJ0_init_2_42) rfl rfl) <|
  xA1 (ok_putA (xdd xB_100 dJ0_init_2_43) rfl (lk_f q212) rfl xfd_35 (Or.inl ⟨_, rfl⟩) (Or.inl rfl)) <|
  xA0 (ok_aload_n (xdd xB_100 dJ0_init_2_46) rfl rfl) <|
  xA0 (ok_aload_n (xdd xB_100 dJ0_init_2_47) rfl rfl) <|
  xA1 (ok_putA (xdd xB_100 dJ0_init_2_48) rfl (lk_f q213) rfl xfd_32 (Or.inl ⟨_, rfl⟩) (Or.inl rfl)) <|
  xA0 (ok_iload_n (xdd xB_100 dJ0_init_2_51) rfl rfl) <|
  xAB (ok_if_ne (xdd xB_100 dJ0_init_2_52) rfl rfl) <|
  xA0 (ok_aload_n (xdd xB_100 dJ0_init_2_55) rfl rfl) <|
  xA0 (ok_null (xdd xB_100 dJ0_init_2_56) rfl) <|
  xA1 (ok_putA (xdd xB_100 dJ0_init_2_57) rfl (lk_f q215) rfl xfd_34 (Or.inl ⟨_, rfl⟩) (Or.inl rfl)) <|
  xAR (ok_vreturn (xdd xB_100 dJ0_init_2_60) rfl) <|
  xAe
theorem xe_100 {s0 : State} {A0 : Array Value} {D : va_G} {ta : Nat → ClassId} {l : Launch} : XAllC s0 A0 D ta l 100 xk_100 := ⟨xe_100_0, xe_100_1, trivial⟩
theorem xe_101_0 {s0 : State} {A0 : Array Value} {D : va_G} {ta : Nat → ClassId} {l : Launch} : XAll s0 A0 D ta l 101 xk_101_0 :=
  xA0 (ok_aload_n (xdd xB_101 dJ1_init_0) rfl rfl) <|
  xA0 (ok_aload_n (xdd xB_101 dJ1_init_1) rfl rfl) <|
  xA0 (ok_aload_n (xdd xB_101 dJ1_init_2) rfl rfl) <|
  xA0 (ok_iload_n (xdd xB_101 dJ1_init_3) rfl rfl) <|
  xA0 (ok_iload (xdd xB_101 dJ1_init_4) rfl) <|
  xAK rfl (xC1 (ok_callI (xdd xB_101 dJ1_init_6) rfl xq_2 rfl rfl xp_100_4 q204 q205 q113 q206) xC0) <|
  xAR (ok_vreturn (xdd xB_101 dJ1_init_9) rfl) <|
  xAe
theorem xe_101 {s0 : State} {A0 : Array Value} {D : va_G} {ta : Nat → ClassId} {l : Launch} : XAllC s0 A0 D ta l 101 xk_101 := ⟨xe_101_0, trivial⟩
theorem xe_102_0 {s0 : State} {A0 : Array Value} {D : va_G} {ta : Nat → ClassId} {l : Launch} : XAll s0 A0 D ta l 102 xk_102_0 :=
  xA0 (ok_aload_n (xdd xB_102 dJ2_init_0) rfl rfl) <|
  xA0 (ok_aload_n (xdd xB_102 dJ2_init_1) rfl rfl) <|
  xA0 (ok_aload_n (xdd xB_102 dJ2_init_2) rfl rfl) <|
  xA0 (ok_iload_n (xdd xB_102 dJ2_init_3) rfl rfl) <|
  xA0 (ok_iload (xdd xB_102 dJ2_init_4) rfl) <|
  xAK rfl (xC1 (ok_callI (xdd xB_102 dJ2_init_6) rfl xq_2 rfl rfl xp_101_4 q201 q202 q114 q203) xC0) <|
  xAR (ok_vreturn (xdd xB_102 dJ2_init_9) rfl) <|
  xAe
theorem xe_102 {s0 : State} {A0 : Array Value} {D : va_G} {ta : Nat → ClassId} {l : Launch} : XAllC s0 A0 D ta l 102 xk_102 := ⟨xe_102_0, trivial⟩
theorem xe_103_0 {s0 : State} {A0 : Array Value} {D : va_G} {ta : Nat → ClassId} {l : Launch} : XAll s0 A0 D ta l 103 xk_103_0 :=
  xA0 (ok_aload_n (xdd xB_103 dX3_init_0) rfl rfl) <|
  xA0 (ok_null (xdd xB_103 dX3_init_1) rfl) <|
  xA0 (ok_null (xdd xB_103 dX3_init_2) rfl) <|
  xA0 (ok_iconst (xdd xB_103 dX3_init_3) rfl rfl (xrg rfl)) <|
  xA0 (ok_iconst (xdd xB_103 dX3_init_4) rfl rfl (xrg rfl)) <|
  xAK rfl (xC1 (ok_callI (xdd xB_103 dX3_init_5) rfl xq_2 rfl rfl xp_102_4 q198 q199 q115 q200) xC0) <|
  xA0 (ok_aload_n (xdd xB_103 dX3_init_8) rfl rfl) <|
  xA0 (ok_iconst (xdd xB_103 dX3_init_9) rfl rfl (xrg rfl)) <|
  xA1 (ok_putI (xdd xB_103 dX3_init_10) rfl (lk_f q209) rfl xfd_39 (Or.inl rfl)) <|
  xAR (ok_vreturn (xdd xB_103 dX3_init_13) rfl) <|
  xAe
theorem xe_103 {s0 : State} {A0 : Array Value} {D : va_G} {ta : Nat → ClassId} {l : Launch} : XAllC s0 A0 D ta l 103 xk_103 := ⟨xe_103_0, trivial⟩
theorem xe_104_0 {s0 : State} {A0 : Array Value} {D : va_G} {ta : Nat → ClassId} {l : Launch} : XAll s0 A0 D ta l 104 xk_104_0 :=
  xA0 (ok_aload_n (xdd xB_104 dX3_at_0) rfl rfl) <|
  xA0 (ok_iload_n (xdd xB_104 dX3_at_1) rfl rfl) <|
  xA1 (ok_putI (xdd xB_104 dX3_at_2) rfl (lk_f q207) rfl xfd_38 (Or.inl rfl)) <|
  xA0 (ok_aload_n (xdd xB_104 dX3_at_5) rfl rfl) <|
  xA0 (ok_iload_n (xdd xB_104 dX3_at_6) rfl rfl) <|
  xA1 (ok_putI (xdd xB_104 dX3_at_7) rfl (lk_f q209) rfl xfd_39 (Or.inl rfl)) <|
  xA0 (ok_aload_n (xdd xB_104 dX3_at_10) rfl rfl) <|
  xAR (ok_areturn (xdd xB_104 dX3_at_11) rfl (Or.inl ⟨_, rfl⟩)) <|
  xAe
theorem xe_104 {s0 : State} {A0 : Array Value} {D : va_G} {ta : Nat → ClassId} {l : Launch} : XAllC s0 A0 D ta l 104 xk_104 := ⟨xe_104_0, trivial⟩
theorem xe_105_0 {s0 : State} {A0 : Array Value} {D : va_G} {ta : Nat → ClassId} {l : Launch} : XAll s0 A0 D ta l 105 xk_105_0 :=
  xA0 (ok_aload_n (xdd xB_105 dX4_init_0) rfl rfl) <|
  xA1 (ok_obj (xdd xB_105 dX4_init_1) rfl q269 q147 q148) <|
  xA0 (ok_aload_n (xdd xB_105 dX4_init_4) rfl rfl) <|
  xA0 (ok_bipush (xdd xB_105 dX4_init_5) rfl rfl (xrg rfl)) <|
  xA1 (ok_new_int (xdd xB_105 dX4_init_7) rfl) <|
  xA1 (ok_putA (xdd xB_105 dX4_init_9) rfl (lk_f q270) rfl xfd_40 (Or.inr ⟨_, rfl⟩) (Or.inr ⟨rfl, rfl, rfl⟩)) <|
  xA0 (ok_aload_n (xdd xB_105 dX4_init_12) rfl rfl) <|
  xA0 (ok_iconst (xdd xB_105 dX4_init_13) rfl rfl (xrg rfl)) <|
  xA1 (ok_new_int (xdd xB_105 dX4_init_14) rfl) <|
  xA1 (ok_putA (xdd xB_105 dX4_init_16) rfl (lk_f q274) rfl xfd_41 (Or.inr ⟨_, rfl⟩) (Or.inr ⟨rfl, rfl, rfl⟩)) <|
  xA0 (ok_aload_n (xdd xB_105 dX4_init_19) rfl rfl) <|
  xA0 (ok_iconst (xdd xB_105 dX4_init_20) rfl rfl (xrg rfl)) <|
  xA1 (ok_new_int (xdd xB_105 dX4_init_21) rfl) <|
  xA1 (ok_putA (xdd xB_105 dX4_init_23) rfl (lk_f q276) rfl xfd_42 (Or.inr ⟨_, rfl⟩) (Or.inr ⟨rfl, rfl, rfl⟩)) <|
  xAR (ok_vreturn (xdd xB_105 dX4_init_26) rfl) <|
  xAe
theorem xe_105 {s0 : State} {A0 : Array Value} {D : va_G} {ta : Nat → ClassId} {l : Launch} : XAllC s0 A0 D ta l 105 xk_105 := ⟨xe_105_0, trivial⟩
theorem xe_106_0 {s0 : State} {A0 : Array Value} {D : va_G} {ta : Nat → ClassId} {l : Launch} : XAll s0 A0 D ta l 106 xk_106_0 :=
  xA0 (ok_aload_n (xdd xB_106 dX4_begin_0) rfl rfl) <|
  xA0 (ok_aload_n (xdd xB_106 dX4_begin_1) rfl rfl) <|
  xA1 (ok_putA (xdd xB_106 dX4_begin_2) rfl (lk_f q278) rfl xfd_43 (Or.inl ⟨_, rfl⟩) (Or.inl rfl)) <|
  xA0 (ok_aload_n (xdd xB_106 dX4_begin_5) rfl rfl) <|
  xA0 (ok_iconst (xdd xB_106 dX4_begin_6) rfl rfl (xrg rfl)) <|
  xA1 (ok_putI (xdd xB_106 dX4_begin_7) rfl (lk_f q279) rfl xfd_44 (Or.inl rfl)) <|
  xA0 (ok_iconst (xdd xB_106 dX4_begin_10) rfl rfl (xrg rfl)) <|
  xA0 (ok_istore_n (xdd xB_106 dX4_begin_11) rfl rfl) <|
  xA0 (ok_iload_n (xdd xB_106 dX4_begin_12) rfl rfl) <|
  xA0 (ok_aload_n (xdd xB_106 dX4_begin_13) rfl rfl) <|
  xA1 (ok_getI (xdd xB_106 dX4_begin_14) rfl (lk_f q524) (by decide)) <|
  xAB (ok_icmp_ge (xdd xB_106 dX4_begin_17) rfl rfl) <|
  xA0 (ok_aload_n (xdd xB_106 dX4_begin_20) rfl rfl) <|
  xA1 (ok_getA (xdd xB_106 dX4_begin_21) rfl (lk_f q270) rfl) <|
  xA0 (ok_iload_n (xdd xB_106 dX4_begin_24) rfl rfl) <|
  xA0 (ok_aload_n (xdd xB_106 dX4_begin_25) rfl rfl) <|
  xA1 (ok_getA (xdd xB_106 dX4_begin_26) rfl (lk_f q505) rfl) <|
  xA0 (ok_iload_n (xdd xB_106 dX4_begin_29) rfl rfl) <|
  xA1 (ok_aaload (xdd xB_106 dX4_begin_30) rfl) <|
  xA1 (ok_getI (xdd xB_106 dX4_begin_31) rfl (lk_f q810) (by decide)) <|
  xAe
theorem xe_106_1 {s0 : State} {A0 : Array Value} {D : va_G} {ta : Nat → ClassId} {l : Launch} : XAll s0 A0 D ta l 106 xk_106_1 :=
  xA1 (ok_iastore (xdd xB_106 dX4_begin_34) rfl) <|
  xA1 (ok_iinc (xdd xB_106 dX4_begin_35) rfl) <|
  xA0 (ok_goto (xdd xB_106 dX4_begin_38) rfl) <|
  xA0 (ok_iconst (xdd xB_106 dX4_begin_41) rfl rfl (xrg rfl)) <|
  xA0 (ok_istore_n (xdd xB_106 dX4_begin_42) rfl rfl) <|
  xA0 (ok_iload_n (xdd xB_106 dX4_begin_43) rfl rfl) <|
  xA0 (ok_aload_n (xdd xB_106 dX4_begin_44) rfl rfl) <|
  xA1 (ok_getI (xdd xB_106 dX4_begin_45) rfl (lk_f q535) (by decide)) <|
  xAB (ok_icmp_ge (xdd xB_106 dX4_begin_48) rfl rfl) <|
  xA0 (ok_aload_n (xdd xB_106 dX4_begin_51) rfl rfl) <|
  xA1 (ok_getA (xdd xB_106 dX4_begin_52) rfl (lk_f q274) rfl) <|
  xA0 (ok_iload_n (xdd xB_106 dX4_begin_55) rfl rfl) <|
  xA0 (ok_aload_n (xdd xB_106 dX4_begin_56) rfl rfl) <|
  xA1 (ok_getA (xdd xB_106 dX4_begin_57) rfl (lk_f q509) rfl) <|
  xA0 (ok_iload_n (xdd xB_106 dX4_begin_60) rfl rfl) <|
  xA1 (ok_aaload (xdd xB_106 dX4_begin_61) rfl) <|
  xA1 (ok_getI (xdd xB_106 dX4_begin_62) rfl (lk_f q893) (by decide)) <|
  xAe
theorem xe_106_2 {s0 : State} {A0 : Array Value} {D : va_G} {ta : Nat → ClassId} {l : Launch} : XAll s0 A0 D ta l 106 xk_106_2 :=
  xA1 (ok_iastore (xdd xB_106 dX4_begin_65) rfl) <|
  xA0 (ok_aload_n (xdd xB_106 dX4_begin_66) rfl rfl) <|
  xA1 (ok_getA (xdd xB_106 dX4_begin_67) rfl (lk_f q276) rfl) <|
  xA0 (ok_iload_n (xdd xB_106 dX4_begin_70) rfl rfl) <|
  xA0 (ok_iconst (xdd xB_106 dX4_begin_71) rfl rfl (xrg rfl)) <|
  xA1 (ok_iastore (xdd xB_106 dX4_begin_72) rfl) <|
  xA1 (ok_iinc (xdd xB_106 dX4_begin_73) rfl) <|
  xA0 (ok_goto (xdd xB_106 dX4_begin_76) rfl) <|
  xAR (ok_vreturn (xdd xB_106 dX4_begin_79) rfl) <|
  xAe
theorem xe_106 {s0 : State} {A0 : Array Value} {D : va_G} {ta : Nat → ClassId} {l : Launch} : XAllC s0 A0 D ta l 106 xk_106 := ⟨xe_106_0, xe_106_1, xe_106_2, trivial⟩
theorem xe_107_0 {s0 : State} {A0 : Array Value} {D : va_G} {ta : Nat → ClassId} {l : Launch} : XAll s0 A0 D ta l 107 xk_107_0 :=
  xA0 (ok_iconst (xdd xB_107 dX4_lender_0) rfl rfl (xrg rfl)) <|
  xA0 (ok_istore_n (xdd xB_107 dX4_lender_1) rfl rfl) <|
  xA0 (ok_iload_n (xdd xB_107 dX4_lender_2) rfl rfl) <|
  xA0 (ok_aload_n (xdd xB_107 dX4_lender_3) rfl rfl) <|
  xA1 (ok_getA (xdd xB_107 dX4_lender_4) rfl (lk_f q278) rfl) <|
  xA1 (ok_getI (xdd xB_107 dX4_lender_7) rfl (lk_f q524) (by decide)) <|
  xAB (ok_icmp_ge (xdd xB_107 dX4_lender_10) rfl rfl) <|
  xA0 (ok_aload_n (xdd xB_107 dX4_lender_13) rfl rfl) <|
  xA1 (ok_getA (xdd xB_107 dX4_lender_14) rfl (lk_f q270) rfl) <|
  xA0 (ok_iload_n (xdd xB_107 dX4_lender_17) rfl rfl) <|
  xA1 (ok_iaload (xdd xB_107 dX4_lender_18) rfl) <|
  xA0 (ok_iload_n (xdd xB_107 dX4_lender_19) rfl rfl) <|
  xAB (ok_icmp_ne (xdd xB_107 dX4_lender_20) rfl rfl) <|
  xA0 (ok_iload_n (xdd xB_107 dX4_lender_23) rfl rfl) <|
  xAR (ok_ireturn (xdd xB_107 dX4_lender_24) rfl) <|
  xA1 (ok_iinc (xdd xB_107 dX4_lender_25) rfl) <|
  xA0 (ok_goto (xdd xB_107 dX4_lender_28) rfl) <|
  xA0 (ok_bipush (xdd xB_107 dX4_lender_31) rfl rfl (xrg rfl)) <|
  xAe
theorem xe_107_1 {s0 : State} {A0 : Array Value} {D : va_G} {ta : Nat → ClassId} {l : Launch} : XAll s0 A0 D ta l 107 xk_107_1 :=
  xAR (ok_ireturn (xdd xB_107 dX4_lender_33) rfl) <|
  xAe
theorem xe_107 {s0 : State} {A0 : Array Value} {D : va_G} {ta : Nat → ClassId} {l : Launch} : XAllC s0 A0 D ta l 107 xk_107 := ⟨xe_107_0, xe_107_1, trivial⟩
theorem xe_108_0 {s0 : State} {A0 : Array Value} {D : va_G} {ta : Nat → ClassId} {l : Launch} : XAll s0 A0 D ta l 108 xk_108_0 :=
  xA0 (ok_aload_n (xdd xB_108 dX4_isOpen_0) rfl rfl) <|
  xA1 (ok_getA (xdd xB_108 dX4_isOpen_1) rfl (lk_f q270) rfl) <|
  xA0 (ok_iload_n (xdd xB_108 dX4_isOpen_4) rfl rfl) <|
  xA1 (ok_iaload (xdd xB_108 dX4_isOpen_5) rfl) <|
  xA0 (ok_bipush (xdd xB_108 dX4_isOpen_6) rfl rfl (xrg rfl)) <|
  xAB (ok_icmp_eq (xdd xB_108 dX4_isOpen_8) rfl rfl) <|
  xA0 (ok_aload_n (xdd xB_108 dX4_isOpen_11) rfl rfl) <|
  xA1 (ok_getI (xdd xB_108 dX4_isOpen_12) rfl (lk_f q279) (by decide)) <|
  xA0 (ok_iload_n (xdd xB_108 dX4_isOpen_15) rfl rfl) <|
  xAK rfl (xC1 (ok_callSN (xdd xB_108 dX4_isOpen_16) rfl xp_12_2 q988 q974 q111 q975) xC0) <|
  xAB (ok_if_ne (xdd xB_108 dX4_isOpen_19) rfl rfl) <|
  xA0 (ok_aload_n (xdd xB_108 dX4_isOpen_22) rfl rfl) <|
  xA1 (ok_getA (xdd xB_108 dX4_isOpen_23) rfl (lk_f q278) rfl) <|
  xA1 (ok_getA (xdd xB_108 dX4_isOpen_26) rfl (lk_f q505) rfl) <|
  xA0 (ok_iload_n (xdd xB_108 dX4_isOpen_29) rfl rfl) <|
  xA1 (ok_aaload (xdd xB_108 dX4_isOpen_30) rfl) <|
  xA0 (ok_iload_n (xdd xB_108 dX4_isOpen_31) rfl rfl) <|
  xAe
theorem xe_108_1 {s0 : State} {A0 : Array Value} {D : va_G} {ta : Nat → ClassId} {l : Launch} : XAll s0 A0 D ta l 108 xk_108_1 :=
  xAK rfl (xC1 (ok_callV (xdd xB_108 dX4_isOpen_32) rfl xq_11 rfl xp_284_1 q989 q990 q991 q132 q992) xC0) <|
  xAB (ok_if_eq (xdd xB_108 dX4_isOpen_35) rfl rfl) <|
  xA0 (ok_iconst (xdd xB_108 dX4_isOpen_38) rfl rfl (xrg rfl)) <|
  xA0 (ok_goto (xdd xB_108 dX4_isOpen_39) rfl) <|
  xA0 (ok_iconst (xdd xB_108 dX4_isOpen_42) rfl rfl (xrg rfl)) <|
  xAR (ok_zreturn (xdd xB_108 dX4_isOpen_43) rfl) <|
  xAe
theorem xe_108 {s0 : State} {A0 : Array Value} {D : va_G} {ta : Nat → ClassId} {l : Launch} : XAllC s0 A0 D ta l 108 xk_108 := ⟨xe_108_0, xe_108_1, trivial⟩
theorem xe_109_0 {s0 : State} {A0 : Array Value} {D : va_G} {ta : Nat → ClassId} {l : Launch} : XAll s0 A0 D ta l 109 xk_109_0 :=
  xA0 (ok_iconst (xdd xB_109 dX4_mutual_0) rfl rfl (xrg rfl)) <|
  xA0 (ok_istore_n (xdd xB_109 dX4_mutual_1) rfl rfl) <|
  xA0 (ok_iconst (xdd xB_109 dX4_mutual_2) rfl rfl (xrg rfl)) <|
  xA0 (ok_istore_n (xdd xB_109 dX4_mutual_3) rfl rfl) <|
  xA0 (ok_iload_n (xdd xB_109 dX4_mutual_4) rfl rfl) <|
  xA0 (ok_aload_n (xdd xB_109 dX4_mutual_5) rfl rfl) <|
  xA1 (ok_getA (xdd xB_109 dX4_mutual_6) rfl (lk_f q278) rfl) <|
  xA1 (ok_getI (xdd xB_109 dX4_mutual_9) rfl (lk_f q524) (by decide)) <|
  xAB (ok_icmp_ge (xdd xB_109 dX4_mutual_12) rfl rfl) <|
  xA0 (ok_iload_n (xdd xB_109 dX4_mutual_15) rfl rfl) <|
  xA0 (ok_aload_n (xdd xB_109 dX4_mutual_16) rfl rfl) <|
  xA0 (ok_iload_n (xdd xB_109 dX4_mutual_17) rfl rfl) <|
  xAK rfl (xC1 (ok_callV (xdd xB_109 dX4_mutual_18) rfl xq_3 rfl xp_110_1 q1027 q1028 q1029 q117 q1030) xC0) <|
  xAB (ok_if_eq (xdd xB_109 dX4_mutual_21) rfl rfl) <|
  xA0 (ok_iconst (xdd xB_109 dX4_mutual_24) rfl rfl (xrg rfl)) <|
  xA0 (ok_iload_n (xdd xB_109 dX4_mutual_25) rfl rfl) <|
  xA1 (ok_ishl (xdd xB_109 dX4_mutual_26) rfl) <|
  xA0 (ok_goto (xdd xB_109 dX4_mutual_27) rfl) <|
  xA0 (ok_iconst (xdd xB_109 dX4_mutual_30) rfl rfl (xrg rfl)) <|
  xA0 (ok_ior (xdd xB_109 dX4_mutual_31) rfl) <|
  xAe
theorem xe_109_1 {s0 : State} {A0 : Array Value} {D : va_G} {ta : Nat → ClassId} {l : Launch} : XAll s0 A0 D ta l 109 xk_109_1 :=
  xA0 (ok_istore_n (xdd xB_109 dX4_mutual_32) rfl rfl) <|
  xA1 (ok_iinc (xdd xB_109 dX4_mutual_33) rfl) <|
  xA0 (ok_goto (xdd xB_109 dX4_mutual_36) rfl) <|
  xA0 (ok_iload_n (xdd xB_109 dX4_mutual_39) rfl rfl) <|
  xAR (ok_ireturn (xdd xB_109 dX4_mutual_40) rfl) <|
  xAe
theorem xe_109 {s0 : State} {A0 : Array Value} {D : va_G} {ta : Nat → ClassId} {l : Launch} : XAllC s0 A0 D ta l 109 xk_109 := ⟨xe_109_0, xe_109_1, trivial⟩
theorem xe_110_0 {s0 : State} {A0 : Array Value} {D : va_G} {ta : Nat → ClassId} {l : Launch} : XAll s0 A0 D ta l 110 xk_110_0 :=
  xA0 (ok_aload_n (xdd xB_110 dX4_isMutual_0) rfl rfl) <|
  xA1 (ok_getA (xdd xB_110 dX4_isMutual_1) rfl (lk_f q270) rfl) <|
  xA0 (ok_iload_n (xdd xB_110 dX4_isMutual_4) rfl rfl) <|
  xA1 (ok_iaload (xdd xB_110 dX4_isMutual_5) rfl) <|
  xA0 (ok_bipush (xdd xB_110 dX4_isMutual_6) rfl rfl (xrg rfl)) <|
  xAB (ok_icmp_eq (xdd xB_110 dX4_isMutual_8) rfl rfl) <|
  xA0 (ok_aload_n (xdd xB_110 dX4_isMutual_11) rfl rfl) <|
  xA1 (ok_getA (xdd xB_110 dX4_isMutual_12) rfl (lk_f q270) rfl) <|
  xA0 (ok_aload_n (xdd xB_110 dX4_isMutual_15) rfl rfl) <|
  xA1 (ok_getA (xdd xB_110 dX4_isMutual_16) rfl (lk_f q270) rfl) <|
  xA0 (ok_iload_n (xdd xB_110 dX4_isMutual_19) rfl rfl) <|
  xA1 (ok_iaload (xdd xB_110 dX4_isMutual_20) rfl) <|
  xA1 (ok_iaload (xdd xB_110 dX4_isMutual_21) rfl) <|
  xA0 (ok_iload_n (xdd xB_110 dX4_isMutual_22) rfl rfl) <|
  xAB (ok_icmp_ne (xdd xB_110 dX4_isMutual_23) rfl rfl) <|
  xA0 (ok_iconst (xdd xB_110 dX4_isMutual_26) rfl rfl (xrg rfl)) <|
  xA0 (ok_goto (xdd xB_110 dX4_isMutual_27) rfl) <|
  xA0 (ok_iconst (xdd xB_110 dX4_isMutual_30) rfl rfl (xrg rfl)) <|
  xAR (ok_zreturn (xdd xB_110 dX4_isMutual_31) rfl) <|
  xAe
theorem xe_110 {s0 : State} {A0 : Array Value} {D : va_G} {ta : Nat → ClassId} {l : Launch} : XAllC s0 A0 D ta l 110 xk_110 := ⟨xe_110_0, trivial⟩
theorem xe_111_0 {s0 : State} {A0 : Array Value} {D : va_G} {ta : Nat → ClassId} {l : Launch} : XAll s0 A0 D ta l 111 xk_111_0 :=
  xA0 (ok_aload_n (xdd xB_111 dX4_opens_0) rfl rfl) <|
  xA1 (ok_getA (xdd xB_111 dX4_opens_1) rfl (lk_f q270) rfl) <|
  xA0 (ok_iload_n (xdd xB_111 dX4_opens_4) rfl rfl) <|
  xA1 (ok_iaload (xdd xB_111 dX4_opens_5) rfl) <|
  xA0 (ok_bipush (xdd xB_111 dX4_opens_6) rfl rfl (xrg rfl)) <|
  xAB (ok_icmp_eq (xdd xB_111 dX4_opens_8) rfl rfl) <|
  xA0 (ok_aload_n (xdd xB_111 dX4_opens_11) rfl rfl) <|
  xA1 (ok_getI (xdd xB_111 dX4_opens_12) rfl (lk_f q279) (by decide)) <|
  xA0 (ok_iload_n (xdd xB_111 dX4_opens_15) rfl rfl) <|
  xAK rfl (xC1 (ok_callSN (xdd xB_111 dX4_opens_16) rfl xp_12_2 q988 q974 q111 q975) xC0) <|
  xAB (ok_if_eq (xdd xB_111 dX4_opens_19) rfl rfl) <|
  xA0 (ok_ldc (xdd xB_111 dX4_opens_22) rfl q1087 rfl (xrg rfl)) <|
  xAR (ok_ireturn (xdd xB_111 dX4_opens_24) rfl) <|
  xA0 (ok_iload_n (xdd xB_111 dX4_opens_25) rfl rfl) <|
  xA0 (ok_istore_n (xdd xB_111 dX4_opens_26) rfl rfl) <|
  xA0 (ok_aload_n (xdd xB_111 dX4_opens_27) rfl rfl) <|
  xA1 (ok_getA (xdd xB_111 dX4_opens_28) rfl (lk_f q278) rfl) <|
  xA1 (ok_getA (xdd xB_111 dX4_opens_31) rfl (lk_f q505) rfl) <|
  xAe
theorem xe_111_1 {s0 : State} {A0 : Array Value} {D : va_G} {ta : Nat → ClassId} {l : Launch} : XAll s0 A0 D ta l 111 xk_111_1 :=
  xA0 (ok_iload_n (xdd xB_111 dX4_opens_34) rfl rfl) <|
  xA1 (ok_aaload (xdd xB_111 dX4_opens_35) rfl) <|
  xA0 (ok_iload_n (xdd xB_111 dX4_opens_36) rfl rfl) <|
  xAK rfl (xC1 (ok_callV (xdd xB_111 dX4_opens_37) rfl xq_11 rfl xp_284_1 q989 q990 q991 q132 q992) xC0) <|
  xAB (ok_if_ne (xdd xB_111 dX4_opens_40) rfl rfl) <|
  xA0 (ok_bipush (xdd xB_111 dX4_opens_43) rfl rfl (xrg rfl)) <|
  xA0 (ok_iload_n (xdd xB_111 dX4_opens_45) rfl rfl) <|
  xA0 (ok_bipush (xdd xB_111 dX4_opens_46) rfl rfl (xrg rfl)) <|
  xA1 (ok_idiv (xdd xB_111 dX4_opens_48) rfl) <|
  xA0 (ok_iconst (xdd xB_111 dX4_opens_49) rfl rfl (xrg rfl)) <|
  xA1 (ok_iadd (xdd xB_111 dX4_opens_50) rfl) <|
  xA1 (ok_imul (xdd xB_111 dX4_opens_51) rfl) <|
  xA0 (ok_istore_n (xdd xB_111 dX4_opens_52) rfl rfl) <|
  xA0 (ok_goto (xdd xB_111 dX4_opens_53) rfl) <|
  xA0 (ok_iload_n (xdd xB_111 dX4_opens_56) rfl rfl) <|
  xAR (ok_ireturn (xdd xB_111 dX4_opens_57) rfl) <|
  xAe
theorem xe_111 {s0 : State} {A0 : Array Value} {D : va_G} {ta : Nat → ClassId} {l : Launch} : XAllC s0 A0 D ta l 111 xk_111 := ⟨xe_111_0, xe_111_1, trivial⟩
theorem xe_112_0 {s0 : State} {A0 : Array Value} {D : va_G} {ta : Nat → ClassId} {l : Launch} : XAll s0 A0 D ta l 112 xk_112_0 :=
  xA0 (ok_aload_n (xdd xB_112 dX4_become_0) rfl rfl) <|
  xA0 (ok_aload_n (xdd xB_112 dX4_become_1) rfl rfl) <|
  xA1 (ok_getA (xdd xB_112 dX4_become_2) rfl (lk_f q278) rfl) <|
  xA1 (ok_putA (xdd xB_112 dX4_become_5) rfl (lk_f q278) rfl xfd_43 (Or.inl ⟨_, rfl⟩) (Or.inl rfl)) <|
  xA0 (ok_aload_n (xdd xB_112 dX4_become_8) rfl rfl) <|
  xA0 (ok_aload_n (xdd xB_112 dX4_become_9) rfl rfl) <|
  xA1 (ok_getI (xdd xB_112 dX4_become_10) rfl (lk_f q279) (by decide)) <|
  xA1 (ok_putI (xdd xB_112 dX4_become_13) rfl (lk_f q279) rfl xfd_44 (Or.inl rfl)) <|
  xA0 (ok_aload_n (xdd xB_112 dX4_become_16) rfl rfl) <|
  xA1 (ok_getA (xdd xB_112 dX4_become_17) rfl (lk_f q270) rfl) <|
  xA0 (ok_iconst (xdd xB_112 dX4_become_20) rfl rfl (xrg rfl)) <|
  xA0 (ok_aload_n (xdd xB_112 dX4_become_21) rfl rfl) <|
  xA1 (ok_getA (xdd xB_112 dX4_become_22) rfl (lk_f q270) rfl) <|
  xA0 (ok_iconst (xdd xB_112 dX4_become_25) rfl rfl (xrg rfl)) <|
  xA0 (ok_bipush (xdd xB_112 dX4_become_26) rfl rfl (xrg rfl)) <|
  xA1 (ok_copy (xdd xB_112 dX4_become_28) rfl q1222) <|
  xA0 (ok_aload_n (xdd xB_112 dX4_become_31) rfl rfl) <|
  xAe
theorem xe_112_1 {s0 : State} {A0 : Array Value} {D : va_G} {ta : Nat → ClassId} {l : Launch} : XAll s0 A0 D ta l 112 xk_112_1 :=
  xA1 (ok_getA (xdd xB_112 dX4_become_32) rfl (lk_f q274) rfl) <|
  xA0 (ok_iconst (xdd xB_112 dX4_become_35) rfl rfl (xrg rfl)) <|
  xA0 (ok_aload_n (xdd xB_112 dX4_become_36) rfl rfl) <|
  xA1 (ok_getA (xdd xB_112 dX4_become_37) rfl (lk_f q274) rfl) <|
  xA0 (ok_iconst (xdd xB_112 dX4_become_40) rfl rfl (xrg rfl)) <|
  xA0 (ok_iconst (xdd xB_112 dX4_become_41) rfl rfl (xrg rfl)) <|
  xA1 (ok_copy (xdd xB_112 dX4_become_42) rfl q1222) <|
  xA0 (ok_aload_n (xdd xB_112 dX4_become_45) rfl rfl) <|
  xA1 (ok_getA (xdd xB_112 dX4_become_46) rfl (lk_f q276) rfl) <|
  xA0 (ok_iconst (xdd xB_112 dX4_become_49) rfl rfl (xrg rfl)) <|
  xA0 (ok_aload_n (xdd xB_112 dX4_become_50) rfl rfl) <|
  xA1 (ok_getA (xdd xB_112 dX4_become_51) rfl (lk_f q276) rfl) <|
  xA0 (ok_iconst (xdd xB_112 dX4_become_54) rfl rfl (xrg rfl)) <|
  xA0 (ok_iconst (xdd xB_112 dX4_become_55) rfl rfl (xrg rfl)) <|
  xA1 (ok_copy (xdd xB_112 dX4_become_56) rfl q1222) <|
  xAR (ok_vreturn (xdd xB_112 dX4_become_59) rfl) <|
  xAe
theorem xe_112 {s0 : State} {A0 : Array Value} {D : va_G} {ta : Nat → ClassId} {l : Launch} : XAllC s0 A0 D ta l 112 xk_112 := ⟨xe_112_0, xe_112_1, trivial⟩
theorem xe_113_0 {s0 : State} {A0 : Array Value} {D : va_G} {ta : Nat → ClassId} {l : Launch} : XAll s0 A0 D ta l 113 xk_113_0 :=
  xA0 (ok_iload_n (xdd xB_113 dX4_canExchange_0) rfl rfl) <|
  xA0 (ok_iload_n (xdd xB_113 dX4_canExchange_1) rfl rfl) <|
  xAB (ok_icmp_eq (xdd xB_113 dX4_canExchange_2) rfl rfl) <|
  xA0 (ok_aload_n (xdd xB_113 dX4_canExchange_5) rfl rfl) <|
  xA1 (ok_getA (xdd xB_113 dX4_canExchange_6) rfl (lk_f q270) rfl) <|
  xA0 (ok_iload_n (xdd xB_113 dX4_canExchange_9) rfl rfl) <|
  xA1 (ok_iaload (xdd xB_113 dX4_canExchange_10) rfl) <|
  xA0 (ok_bipush (xdd xB_113 dX4_canExchange_11) rfl rfl (xrg rfl)) <|
  xAB (ok_icmp_eq (xdd xB_113 dX4_canExchange_13) rfl rfl) <|
  xA0 (ok_aload_n (xdd xB_113 dX4_canExchange_16) rfl rfl) <|
  xA1 (ok_getA (xdd xB_113 dX4_canExchange_17) rfl (lk_f q270) rfl) <|
  xA0 (ok_iload_n (xdd xB_113 dX4_canExchange_20) rfl rfl) <|
  xA1 (ok_iaload (xdd xB_113 dX4_canExchange_21) rfl) <|
  xA0 (ok_bipush (xdd xB_113 dX4_canExchange_22) rfl rfl (xrg rfl)) <|
  xAB (ok_icmp_eq (xdd xB_113 dX4_canExchange_24) rfl rfl) <|
  xA0 (ok_aload_n (xdd xB_113 dX4_canExchange_27) rfl rfl) <|
  xA1 (ok_getA (xdd xB_113 dX4_canExchange_28) rfl (lk_f q270) rfl) <|
  xA0 (ok_iload_n (xdd xB_113 dX4_canExchange_31) rfl rfl) <|
  xAe
theorem xe_113_1 {s0 : State} {A0 : Array Value} {D : va_G} {ta : Nat → ClassId} {l : Launch} : XAll s0 A0 D ta l 113 xk_113_1 :=
  xA1 (ok_iaload (xdd xB_113 dX4_canExchange_32) rfl) <|
  xA0 (ok_iload_n (xdd xB_113 dX4_canExchange_33) rfl rfl) <|
  xAB (ok_icmp_eq (xdd xB_113 dX4_canExchange_34) rfl rfl) <|
  xA0 (ok_aload_n (xdd xB_113 dX4_canExchange_37) rfl rfl) <|
  xA1 (ok_getA (xdd xB_113 dX4_canExchange_38) rfl (lk_f q270) rfl) <|
  xA0 (ok_iload_n (xdd xB_113 dX4_canExchange_41) rfl rfl) <|
  xA1 (ok_iaload (xdd xB_113 dX4_canExchange_42) rfl) <|
  xA0 (ok_iload_n (xdd xB_113 dX4_canExchange_43) rfl rfl) <|
  xAB (ok_icmp_eq (xdd xB_113 dX4_canExchange_44) rfl rfl) <|
  xA0 (ok_iconst (xdd xB_113 dX4_canExchange_47) rfl rfl (xrg rfl)) <|
  xA0 (ok_goto (xdd xB_113 dX4_canExchange_48) rfl) <|
  xA0 (ok_iconst (xdd xB_113 dX4_canExchange_51) rfl rfl (xrg rfl)) <|
  xAR (ok_zreturn (xdd xB_113 dX4_canExchange_52) rfl) <|
  xAe
theorem xe_113 {s0 : State} {A0 : Array Value} {D : va_G} {ta : Nat → ClassId} {l : Launch} : XAllC s0 A0 D ta l 113 xk_113 := ⟨xe_113_0, xe_113_1, trivial⟩
theorem xe_114_0 {s0 : State} {A0 : Array Value} {D : va_G} {ta : Nat → ClassId} {l : Launch} : XAll s0 A0 D ta l 114 xk_114_0 :=
  xA0 (ok_aload_n (xdd xB_114 dX4_exchange_0) rfl rfl) <|
  xA1 (ok_getA (xdd xB_114 dX4_exchange_1) rfl (lk_f q270) rfl) <|
  xA0 (ok_iload_n (xdd xB_114 dX4_exchange_4) rfl rfl) <|
  xA1 (ok_iaload (xdd xB_114 dX4_exchange_5) rfl) <|
  xA0 (ok_istore_n (xdd xB_114 dX4_exchange_6) rfl rfl) <|
  xA0 (ok_aload_n (xdd xB_114 dX4_exchange_7) rfl rfl) <|
  xA1 (ok_getA (xdd xB_114 dX4_exchange_8) rfl (lk_f q270) rfl) <|
  xA0 (ok_iload_n (xdd xB_114 dX4_exchange_11) rfl rfl) <|
  xA0 (ok_aload_n (xdd xB_114 dX4_exchange_12) rfl rfl) <|
  xA1 (ok_getA (xdd xB_114 dX4_exchange_13) rfl (lk_f q270) rfl) <|
  xA0 (ok_iload_n (xdd xB_114 dX4_exchange_16) rfl rfl) <|
  xA1 (ok_iaload (xdd xB_114 dX4_exchange_17) rfl) <|
  xA1 (ok_iastore (xdd xB_114 dX4_exchange_18) rfl) <|
  xA0 (ok_aload_n (xdd xB_114 dX4_exchange_19) rfl rfl) <|
  xA1 (ok_getA (xdd xB_114 dX4_exchange_20) rfl (lk_f q270) rfl) <|
  xA0 (ok_iload_n (xdd xB_114 dX4_exchange_23) rfl rfl) <|
  xA0 (ok_iload_n (xdd xB_114 dX4_exchange_24) rfl rfl) <|
  xA1 (ok_iastore (xdd xB_114 dX4_exchange_25) rfl) <|
  xAR (ok_vreturn (xdd xB_114 dX4_exchange_26) rfl) <|
  xAe
theorem xe_114 {s0 : State} {A0 : Array Value} {D : va_G} {ta : Nat → ClassId} {l : Launch} : XAllC s0 A0 D ta l 114 xk_114 := ⟨xe_114_0, trivial⟩
theorem xe_115_0 {s0 : State} {A0 : Array Value} {D : va_G} {ta : Nat → ClassId} {l : Launch} : XAll s0 A0 D ta l 115 xk_115_0 :=
  xA0 (ok_aload_n (xdd xB_115 dX4_arrives_0) rfl rfl) <|
  xA1 (ok_getA (xdd xB_115 dX4_arrives_1) rfl (lk_f q278) rfl) <|
  xA0 (ok_iload_n (xdd xB_115 dX4_arrives_4) rfl rfl) <|
  xA0 (ok_iload_n (xdd xB_115 dX4_arrives_5) rfl rfl) <|
  xAK rfl (xC1 (ok_callV (xdd xB_115 dX4_arrives_6) rfl xq_10 rfl xp_258_2 q1337 q877 q878 q125 q879) xC0) <|
  xAB (ok_if_le (xdd xB_115 dX4_arrives_9) rfl rfl) <|
  xA0 (ok_iload_n (xdd xB_115 dX4_arrives_12) rfl rfl) <|
  xA0 (ok_aload_n (xdd xB_115 dX4_arrives_13) rfl rfl) <|
  xA1 (ok_getA (xdd xB_115 dX4_arrives_14) rfl (lk_f q278) rfl) <|
  xA0 (ok_iload_n (xdd xB_115 dX4_arrives_17) rfl rfl) <|
  xA0 (ok_iload_n (xdd xB_115 dX4_arrives_18) rfl rfl) <|
  xAK rfl (xC1 (ok_callV (xdd xB_115 dX4_arrives_19) rfl xq_10 rfl xp_258_2 q1337 q877 q878 q125 q879) xC0) <|
  xA1 (ok_iadd (xdd xB_115 dX4_arrives_22) rfl) <|
  xA0 (ok_goto (xdd xB_115 dX4_arrives_23) rfl) <|
  xA0 (ok_ldc (xdd xB_115 dX4_arrives_26) rfl q1087 rfl (xrg rfl)) <|
  xA0 (ok_istore (xdd xB_115 dX4_arrives_28) rfl) <|
  xA0 (ok_aload_n (xdd xB_115 dX4_arrives_30) rfl rfl) <|
  xA1 (ok_getA (xdd xB_115 dX4_arrives_31) rfl (lk_f q270) rfl) <|
  xAe
theorem xe_115_1 {s0 : State} {A0 : Array Value} {D : va_G} {ta : Nat → ClassId} {l : Launch} : XAll s0 A0 D ta l 115 xk_115_1 :=
  xA0 (ok_iload_n (xdd xB_115 dX4_arrives_34) rfl rfl) <|
  xA1 (ok_iaload (xdd xB_115 dX4_arrives_35) rfl) <|
  xA0 (ok_iload_n (xdd xB_115 dX4_arrives_36) rfl rfl) <|
  xAB (ok_icmp_ne (xdd xB_115 dX4_arrives_37) rfl rfl) <|
  xA0 (ok_aload_n (xdd xB_115 dX4_arrives_40) rfl rfl) <|
  xA0 (ok_iload_n (xdd xB_115 dX4_arrives_41) rfl rfl) <|
  xA0 (ok_iload_n (xdd xB_115 dX4_arrives_42) rfl rfl) <|
  xAK rfl (xC1 (ok_callV (xdd xB_115 dX4_arrives_43) rfl xq_3 rfl xp_108_2 q1338 q985 q986 q117 q987) xC0) <|
  xAB (ok_if_eq (xdd xB_115 dX4_arrives_46) rfl rfl) <|
  xA0 (ok_iload (xdd xB_115 dX4_arrives_49) rfl) <|
  xA0 (ok_iload_n (xdd xB_115 dX4_arrives_51) rfl rfl) <|
  xA0 (ok_aload_n (xdd xB_115 dX4_arrives_52) rfl rfl) <|
  xA1 (ok_getA (xdd xB_115 dX4_arrives_53) rfl (lk_f q278) rfl) <|
  xA1 (ok_getI (xdd xB_115 dX4_arrives_56) rfl (lk_f q518) (by decide)) <|
  xA1 (ok_iadd (xdd xB_115 dX4_arrives_59) rfl) <|
  xA0 (ok_mmin (xdd xB_115 dX4_arrives_60) rfl q1339) <|
  xA0 (ok_goto (xdd xB_115 dX4_arrives_63) rfl) <|
  xAe
theorem xe_115_2 {s0 : State} {A0 : Array Value} {D : va_G} {ta : Nat → ClassId} {l : Launch} : XAll s0 A0 D ta l 115 xk_115_2 :=
  xA0 (ok_iload (xdd xB_115 dX4_arrives_66) rfl) <|
  xAR (ok_ireturn (xdd xB_115 dX4_arrives_68) rfl) <|
  xAe
theorem xe_115 {s0 : State} {A0 : Array Value} {D : va_G} {ta : Nat → ClassId} {l : Launch} : XAllC s0 A0 D ta l 115 xk_115 := ⟨xe_115_0, xe_115_1, xe_115_2, trivial⟩
theorem xe_116_0 {s0 : State} {A0 : Array Value} {D : va_G} {ta : Nat → ClassId} {l : Launch} : XAll s0 A0 D ta l 116 xk_116_0 :=
  xA0 (ok_aload_n (xdd xB_116 dX5_init_0) rfl rfl) <|
  xA1 (ok_obj (xdd xB_116 dX5_init_1) rfl q298 q147 q148) <|
  xA0 (ok_aload_n (xdd xB_116 dX5_init_4) rfl rfl) <|
  xA0 (ok_bipush (xdd xB_116 dX5_init_5) rfl rfl (xrg rfl)) <|
  xA1 (ok_new_int (xdd xB_116 dX5_init_7) rfl) <|
  xA1 (ok_putA (xdd xB_116 dX5_init_9) rfl (lk_f q299) rfl xfd_45 (Or.inr ⟨_, rfl⟩) (Or.inr ⟨rfl, rfl, rfl⟩)) <|
  xA0 (ok_aload_n (xdd xB_116 dX5_init_12) rfl rfl) <|
  xA0 (ok_bipush (xdd xB_116 dX5_init_13) rfl rfl (xrg rfl)) <|
  xA1 (ok_new_int (xdd xB_116 dX5_init_15) rfl) <|
  xA1 (ok_putA (xdd xB_116 dX5_init_17) rfl (lk_f q300) rfl xfd_46 (Or.inr ⟨_, rfl⟩) (Or.inr ⟨rfl, rfl, rfl⟩)) <|
  xAR (ok_vreturn (xdd xB_116 dX5_init_20) rfl) <|
  xAe
theorem xe_116 {s0 : State} {A0 : Array Value} {D : va_G} {ta : Nat → ClassId} {l : Launch} : XAllC s0 A0 D ta l 116 xk_116 := ⟨xe_116_0, trivial⟩
theorem xe_117_0 {s0 : State} {A0 : Array Value} {D : va_G} {ta : Nat → ClassId} {l : Launch} : XAll s0 A0 D ta l 117 xk_117_0 :=
  xA0 (ok_aload_n (xdd xB_117 dX5_seek_0) rfl rfl) <|
  xA0 (ok_aload_n (xdd xB_117 dX5_seek_1) rfl rfl) <|
  xA1 (ok_putA (xdd xB_117 dX5_seek_2) rfl (lk_f q301) rfl xfd_47 (Or.inl ⟨_, rfl⟩) (Or.inl rfl)) <|
  xA0 (ok_aload_n (xdd xB_117 dX5_seek_5) rfl rfl) <|
  xA0 (ok_aload_n (xdd xB_117 dX5_seek_6) rfl rfl) <|
  xA1 (ok_putA (xdd xB_117 dX5_seek_7) rfl (lk_f q302) rfl xfd_48 (Or.inl ⟨_, rfl⟩) (Or.inl rfl)) <|
  xA0 (ok_aload_n (xdd xB_117 dX5_seek_10) rfl rfl) <|
  xA0 (ok_aload_n (xdd xB_117 dX5_seek_11) rfl rfl) <|
  xA1 (ok_putA (xdd xB_117 dX5_seek_12) rfl (lk_f q303) rfl xfd_49 (Or.inl ⟨_, rfl⟩) (Or.inl rfl)) <|
  xA0 (ok_aload_n (xdd xB_117 dX5_seek_15) rfl rfl) <|
  xA0 (ok_iload (xdd xB_117 dX5_seek_16) rfl) <|
  xA1 (ok_putI (xdd xB_117 dX5_seek_18) rfl (lk_f q304) rfl xfd_50 (Or.inl rfl)) <|
  xA0 (ok_aload_n (xdd xB_117 dX5_seek_21) rfl rfl) <|
  xA0 (ok_ldc (xdd xB_117 dX5_seek_22) rfl q1063 rfl (xrg rfl)) <|
  xA1 (ok_putI (xdd xB_117 dX5_seek_24) rfl (lk_f q305) rfl xfd_51 (Or.inl rfl)) <|
  xA0 (ok_aload_n (xdd xB_117 dX5_seek_27) rfl rfl) <|
  xA0 (ok_iconst (xdd xB_117 dX5_seek_28) rfl rfl (xrg rfl)) <|
  xA1 (ok_putI (xdd xB_117 dX5_seek_29) rfl (lk_f q306) rfl xfd_52 (Or.inl rfl)) <|
  xAe
theorem xe_117_1 {s0 : State} {A0 : Array Value} {D : va_G} {ta : Nat → ClassId} {l : Launch} : XAll s0 A0 D ta l 117 xk_117_1 :=
  xA0 (ok_aload_n (xdd xB_117 dX5_seek_32) rfl rfl) <|
  xA0 (ok_iconst (xdd xB_117 dX5_seek_33) rfl rfl (xrg rfl)) <|
  xA0 (ok_iload (xdd xB_117 dX5_seek_34) rfl) <|
  xA0 (ok_iconst (xdd xB_117 dX5_seek_36) rfl rfl (xrg rfl)) <|
  xA0 (ok_iload (xdd xB_117 dX5_seek_37) rfl) <|
  xA1 (ok_ishl (xdd xB_117 dX5_seek_39) rfl) <|
  xA0 (ok_iload (xdd xB_117 dX5_seek_40) rfl) <|
  xAK rfl (xC1 (ok_callV (xdd xB_117 dX5_seek_42) rfl xq_4 rfl xp_118_4 q1064 q1066 qs33 q118 q1067) xC0) <|
  xA0 (ok_aload_n (xdd xB_117 dX5_seek_45) rfl rfl) <|
  xA1 (ok_getI (xdd xB_117 dX5_seek_46) rfl (lk_f q305) (by decide)) <|
  xAR (ok_ireturn (xdd xB_117 dX5_seek_49) rfl) <|
  xAe
theorem xe_117 {s0 : State} {A0 : Array Value} {D : va_G} {ta : Nat → ClassId} {l : Launch} : XAllC s0 A0 D ta l 117 xk_117 := ⟨xe_117_0, xe_117_1, trivial⟩
theorem xe_118_0 {s0 : State} {A0 : Array Value} {D : va_G} {ta : Nat → ClassId} {l : Launch} : XAll s0 A0 D ta l 118 xk_118_0 :=
  xA0 (ok_aload_n (xdd xB_118 dX5_comes_0) rfl rfl) <|
  xA1 (ok_getA (xdd xB_118 dX5_comes_1) rfl (lk_f q299) rfl) <|
  xA0 (ok_iload_n (xdd xB_118 dX5_comes_4) rfl rfl) <|
  xA0 (ok_iload_n (xdd xB_118 dX5_comes_5) rfl rfl) <|
  xA1 (ok_iastore (xdd xB_118 dX5_comes_6) rfl) <|
  xA0 (ok_iload (xdd xB_118 dX5_comes_7) rfl) <|
  xA0 (ok_aload_n (xdd xB_118 dX5_comes_9) rfl rfl) <|
  xA1 (ok_getI (xdd xB_118 dX5_comes_10) rfl (lk_f q305) (by decide)) <|
  xAB (ok_icmp_lt (xdd xB_118 dX5_comes_13) rfl rfl) <|
  xAR (ok_vreturn (xdd xB_118 dX5_comes_16) rfl) <|
  xA0 (ok_iload_n (xdd xB_118 dX5_comes_17) rfl rfl) <|
  xA0 (ok_aload_n (xdd xB_118 dX5_comes_18) rfl rfl) <|
  xA1 (ok_getI (xdd xB_118 dX5_comes_19) rfl (lk_f q304) (by decide)) <|
  xAB (ok_icmp_ne (xdd xB_118 dX5_comes_22) rfl rfl) <|
  xA0 (ok_aload_n (xdd xB_118 dX5_comes_25) rfl rfl) <|
  xA0 (ok_iload (xdd xB_118 dX5_comes_26) rfl) <|
  xA1 (ok_putI (xdd xB_118 dX5_comes_28) rfl (lk_f q305) rfl xfd_51 (Or.inl rfl)) <|
  xA0 (ok_aload_n (xdd xB_118 dX5_comes_31) rfl rfl) <|
  xAe
theorem xe_118_1 {s0 : State} {A0 : Array Value} {D : va_G} {ta : Nat → ClassId} {l : Launch} : XAll s0 A0 D ta l 118 xk_118_1 :=
  xA0 (ok_iload_n (xdd xB_118 dX5_comes_32) rfl rfl) <|
  xA0 (ok_iconst (xdd xB_118 dX5_comes_33) rfl rfl (xrg rfl)) <|
  xA1 (ok_iadd (xdd xB_118 dX5_comes_34) rfl) <|
  xA1 (ok_putI (xdd xB_118 dX5_comes_35) rfl (lk_f q306) rfl xfd_52 (Or.inl rfl)) <|
  xA0 (ok_aload_n (xdd xB_118 dX5_comes_38) rfl rfl) <|
  xA1 (ok_getA (xdd xB_118 dX5_comes_39) rfl (lk_f q299) rfl) <|
  xA0 (ok_iconst (xdd xB_118 dX5_comes_42) rfl rfl (xrg rfl)) <|
  xA0 (ok_aload_n (xdd xB_118 dX5_comes_43) rfl rfl) <|
  xA1 (ok_getA (xdd xB_118 dX5_comes_44) rfl (lk_f q300) rfl) <|
  xA0 (ok_iconst (xdd xB_118 dX5_comes_47) rfl rfl (xrg rfl)) <|
  xA0 (ok_bipush (xdd xB_118 dX5_comes_48) rfl rfl (xrg rfl)) <|
  xA1 (ok_copy (xdd xB_118 dX5_comes_50) rfl q1068) <|
  xAR (ok_vreturn (xdd xB_118 dX5_comes_53) rfl) <|
  xA0 (ok_iconst (xdd xB_118 dX5_comes_54) rfl rfl (xrg rfl)) <|
  xA0 (ok_istore (xdd xB_118 dX5_comes_55) rfl) <|
  xA0 (ok_iload (xdd xB_118 dX5_comes_57) rfl) <|
  xA0 (ok_aload_n (xdd xB_118 dX5_comes_59) rfl rfl) <|
  xA1 (ok_getA (xdd xB_118 dX5_comes_60) rfl (lk_f q301) rfl) <|
  xA1 (ok_getI (xdd xB_118 dX5_comes_63) rfl (lk_f q527) (by decide)) <|
  xAe
theorem xe_118_2 {s0 : State} {A0 : Array Value} {D : va_G} {ta : Nat → ClassId} {l : Launch} : XAll s0 A0 D ta l 118 xk_118_2 :=
  xAB (ok_icmp_ge (xdd xB_118 dX5_comes_66) rfl rfl) <|
  xA0 (ok_iload_n (xdd xB_118 dX5_comes_69) rfl rfl) <|
  xA0 (ok_iload (xdd xB_118 dX5_comes_70) rfl) <|
  xAK rfl (xC1 (ok_callSN (xdd xB_118 dX5_comes_72) rfl xp_12_2 q1071 q974 q111 q975) xC0) <|
  xAB (ok_if_ne (xdd xB_118 dX5_comes_75) rfl rfl) <|
  xA0 (ok_aload_n (xdd xB_118 dX5_comes_78) rfl rfl) <|
  xA0 (ok_iload_n (xdd xB_118 dX5_comes_79) rfl rfl) <|
  xA0 (ok_iconst (xdd xB_118 dX5_comes_80) rfl rfl (xrg rfl)) <|
  xA1 (ok_iadd (xdd xB_118 dX5_comes_81) rfl) <|
  xA0 (ok_iload (xdd xB_118 dX5_comes_82) rfl) <|
  xA0 (ok_iload_n (xdd xB_118 dX5_comes_84) rfl rfl) <|
  xA0 (ok_iconst (xdd xB_118 dX5_comes_85) rfl rfl (xrg rfl)) <|
  xA0 (ok_iload (xdd xB_118 dX5_comes_86) rfl) <|
  xA1 (ok_ishl (xdd xB_118 dX5_comes_88) rfl) <|
  xA0 (ok_ior (xdd xB_118 dX5_comes_89) rfl) <|
  xA0 (ok_aload_n (xdd xB_118 dX5_comes_90) rfl rfl) <|
  xA1 (ok_getA (xdd xB_118 dX5_comes_91) rfl (lk_f q303) rfl) <|
  xA0 (ok_aload_n (xdd xB_118 dX5_comes_94) rfl rfl) <|
  xA1 (ok_getA (xdd xB_118 dX5_comes_95) rfl (lk_f q301) rfl) <|
  xAe
theorem xe_118_3 {s0 : State} {A0 : Array Value} {D : va_G} {ta : Nat → ClassId} {l : Launch} : XAll s0 A0 D ta l 118 xk_118_3 :=
  xA0 (ok_aload_n (xdd xB_118 dX5_comes_98) rfl rfl) <|
  xA1 (ok_getA (xdd xB_118 dX5_comes_99) rfl (lk_f q302) rfl) <|
  xA0 (ok_iload_n (xdd xB_118 dX5_comes_102) rfl rfl) <|
  xA0 (ok_iload (xdd xB_118 dX5_comes_103) rfl) <|
  xA0 (ok_iload (xdd xB_118 dX5_comes_105) rfl) <|
  xAK rfl (xC1 (ok_callU (xdd xB_118 dX5_comes_107) rfl xq_5 ⟨by decide, by decide, by decide +kernel⟩ q1072 q1074 q1091 q1079 q120 q1080 q1073) (xC1 (ok_callU (xdd xB_118 dX5_comes_107) rfl xq_6 ⟨by decide, by decide, by decide +kernel⟩ q1072 q1074 q1075 q1076 q121 q1077 q1073) xC0)) <|
  xAK rfl (xC1 (ok_callV (xdd xB_118 dX5_comes_110) rfl xq_4 rfl xp_118_4 q1064 q1066 qs33 q118 q1067) xC0) <|
  xA1 (ok_iinc (xdd xB_118 dX5_comes_113) rfl) <|
  xA0 (ok_goto (xdd xB_118 dX5_comes_116) rfl) <|
  xAR (ok_vreturn (xdd xB_118 dX5_comes_119) rfl) <|
  xAe
theorem xe_118 {s0 : State} {A0 : Array Value} {D : va_G} {ta : Nat → ClassId} {l : Launch} : XAllC s0 A0 D ta l 118 xk_118 := ⟨xe_118_0, xe_118_1, xe_118_2, xe_118_3, trivial⟩
theorem xe_119_0 {s0 : State} {A0 : Array Value} {D : va_G} {ta : Nat → ClassId} {l : Launch} : XAll s0 A0 D ta l 119 xk_119_0 :=
  xA0 (ok_aload_n (xdd xB_119 dX5_many_0) rfl rfl) <|
  xA1 (ok_getI (xdd xB_119 dX5_many_1) rfl (lk_f q306) (by decide)) <|
  xAR (ok_ireturn (xdd xB_119 dX5_many_4) rfl) <|
  xAe
theorem xe_119 {s0 : State} {A0 : Array Value} {D : va_G} {ta : Nat → ClassId} {l : Launch} : XAllC s0 A0 D ta l 119 xk_119 := ⟨xe_119_0, trivial⟩
theorem xe_120_0 {s0 : State} {A0 : Array Value} {D : va_G} {ta : Nat → ClassId} {l : Launch} : XAll s0 A0 D ta l 120 xk_120_0 :=
  xA0 (ok_aload_n (xdd xB_120 dX5_at_0) rfl rfl) <|
  xA1 (ok_getA (xdd xB_120 dX5_at_1) rfl (lk_f q300) rfl) <|
  xA0 (ok_iload_n (xdd xB_120 dX5_at_4) rfl rfl) <|
  xA1 (ok_iaload (xdd xB_120 dX5_at_5) rfl) <|
  xAR (ok_ireturn (xdd xB_120 dX5_at_6) rfl) <|
  xAe
theorem xe_120 {s0 : State} {A0 : Array Value} {D : va_G} {ta : Nat → ClassId} {l : Launch} : XAllC s0 A0 D ta l 120 xk_120 := ⟨xe_120_0, trivial⟩
theorem xe_121_0 {s0 : State} {A0 : Array Value} {D : va_G} {ta : Nat → ClassId} {l : Launch} : XAll s0 A0 D ta l 121 xk_121_0 :=
  xA0 (ok_aload_n (xdd xB_121 dX6_init_0) rfl rfl) <|
  xA1 (ok_obj (xdd xB_121 dX6_init_1) rfl q332 q147 q148) <|
  xAR (ok_vreturn (xdd xB_121 dX6_init_4) rfl) <|
  xAe
theorem xe_121 {s0 : State} {A0 : Array Value} {D : va_G} {ta : Nat → ClassId} {l : Launch} : XAllC s0 A0 D ta l 121 xk_121 := ⟨xe_121_0, trivial⟩
theorem xe_122_0 {s0 : State} {A0 : Array Value} {D : va_G} {ta : Nat → ClassId} {l : Launch} : XAll s0 A0 D ta l 122 xk_122_0 :=
  xA0 (ok_aload_n (xdd xB_122 dX7_init_0) rfl rfl) <|
  xAK rfl (xC1 (ok_callIN (xdd xB_122 dX7_init_1) rfl xq_5 rfl rfl xp_121_0 q329 q330 q119 q331) (xC1 (ok_callIN (xdd xB_122 dX7_init_1) rfl xq_6 rfl rfl xp_121_0 q329 q330 q119 q331) xC0)) <|
  xAR (ok_vreturn (xdd xB_122 dX7_init_4) rfl) <|
  xAe
theorem xe_122 {s0 : State} {A0 : Array Value} {D : va_G} {ta : Nat → ClassId} {l : Launch} : XAllC s0 A0 D ta l 122 xk_122 := ⟨xe_122_0, trivial⟩
theorem xe_123_0 {s0 : State} {A0 : Array Value} {D : va_G} {ta : Nat → ClassId} {l : Launch} : XAll s0 A0 D ta l 123 xk_123_0 :=
  xA0 (ok_aload_n (xdd xB_123 dX7_comes_0) rfl rfl) <|
  xA0 (ok_iload_n (xdd xB_123 dX7_comes_1) rfl rfl) <|
  xA0 (ok_iload (xdd xB_123 dX7_comes_2) rfl) <|
  xAK rfl (xC1 (ok_callV (xdd xB_123 dX7_comes_4) rfl xq_10 rfl xp_258_2 q1081 q877 q878 q125 q879) xC0) <|
  xAB (ok_if_le (xdd xB_123 dX7_comes_7) rfl rfl) <|
  xA0 (ok_iload (xdd xB_123 dX7_comes_10) rfl) <|
  xA0 (ok_aload_n (xdd xB_123 dX7_comes_12) rfl rfl) <|
  xA0 (ok_iload_n (xdd xB_123 dX7_comes_13) rfl rfl) <|
  xA0 (ok_iload (xdd xB_123 dX7_comes_14) rfl) <|
  xAK rfl (xC1 (ok_callV (xdd xB_123 dX7_comes_16) rfl xq_10 rfl xp_258_2 q1081 q877 q878 q125 q879) xC0) <|
  xA1 (ok_iadd (xdd xB_123 dX7_comes_19) rfl) <|
  xA0 (ok_goto (xdd xB_123 dX7_comes_20) rfl) <|
  xA0 (ok_ldc (xdd xB_123 dX7_comes_23) rfl q1082 rfl (xrg rfl)) <|
  xAR (ok_ireturn (xdd xB_123 dX7_comes_25) rfl) <|
  xAe
theorem xe_123 {s0 : State} {A0 : Array Value} {D : va_G} {ta : Nat → ClassId} {l : Launch} : XAllC s0 A0 D ta l 123 xk_123 := ⟨xe_123_0, trivial⟩
theorem xe_124_0 {s0 : State} {A0 : Array Value} {D : va_G} {ta : Nat → ClassId} {l : Launch} : XAll s0 A0 D ta l 124 xk_124_0 :=
  xA0 (ok_aload_n (xdd xB_124 dX8_init_0) rfl rfl) <|
  xAK rfl (xC1 (ok_callIN (xdd xB_124 dX8_init_1) rfl xq_5 rfl rfl xp_122_0 q339 q327 q120 q328) (xC1 (ok_callIN (xdd xB_124 dX8_init_1) rfl xq_6 rfl rfl xp_122_0 q339 q327 q120 q328) xC0)) <|
  xAR (ok_vreturn (xdd xB_124 dX8_init_4) rfl) <|
  xAe
theorem xe_124 {s0 : State} {A0 : Array Value} {D : va_G} {ta : Nat → ClassId} {l : Launch} : XAllC s0 A0 D ta l 124 xk_124 := ⟨xe_124_0, trivial⟩
theorem xe_125_0 {s0 : State} {A0 : Array Value} {D : va_G} {ta : Nat → ClassId} {l : Launch} : XAll s0 A0 D ta l 125 xk_125_0 :=
  xA0 (ok_aload_n (xdd xB_125 dX8_comes_0) rfl rfl) <|
  xA0 (ok_aload_n (xdd xB_125 dX8_comes_1) rfl rfl) <|
  xA0 (ok_aload_n (xdd xB_125 dX8_comes_2) rfl rfl) <|
  xA0 (ok_iload_n (xdd xB_125 dX8_comes_3) rfl rfl) <|
  xA0 (ok_iload (xdd xB_125 dX8_comes_4) rfl) <|
  xA0 (ok_iload (xdd xB_125 dX8_comes_6) rfl) <|
  xAK rfl (xC1 (ok_callSU (xdd xB_125 dX8_comes_8) rfl xq_6 rfl ⟨by decide, rfl⟩ q1078 q2167 q340 q1079 q120 q1080) xC0) <|
  xA0 (ok_istore (xdd xB_125 dX8_comes_11) rfl) <|
  xA0 (ok_aload_n (xdd xB_125 dX8_comes_13) rfl rfl) <|
  xA1 (ok_getA (xdd xB_125 dX8_comes_14) rfl (lk_f q271) rfl) <|
  xA0 (ok_iload_n (xdd xB_125 dX8_comes_17) rfl rfl) <|
  xA1 (ok_iaload (xdd xB_125 dX8_comes_18) rfl) <|
  xA0 (ok_iload (xdd xB_125 dX8_comes_19) rfl) <|
  xAB (ok_icmp_ne (xdd xB_125 dX8_comes_21) rfl rfl) <|
  xA0 (ok_iload (xdd xB_125 dX8_comes_24) rfl) <|
  xA0 (ok_aload_n (xdd xB_125 dX8_comes_26) rfl rfl) <|
  xA0 (ok_iload_n (xdd xB_125 dX8_comes_27) rfl rfl) <|
  xA0 (ok_iload (xdd xB_125 dX8_comes_28) rfl) <|
  xAK rfl (xC1 (ok_callV (xdd xB_125 dX8_comes_30) rfl xq_3 rfl xp_111_2 q1083 q1084 q1085 q117 q1086) xC0) <|
  xAe
theorem xe_125_1 {s0 : State} {A0 : Array Value} {D : va_G} {ta : Nat → ClassId} {l : Launch} : XAll s0 A0 D ta l 125 xk_125_1 :=
  xA0 (ok_aload_n (xdd xB_125 dX8_comes_33) rfl rfl) <|
  xA1 (ok_getI (xdd xB_125 dX8_comes_34) rfl (lk_f q517) (by decide)) <|
  xA1 (ok_iadd (xdd xB_125 dX8_comes_37) rfl) <|
  xA0 (ok_mmin (xdd xB_125 dX8_comes_38) rfl q1088) <|
  xA0 (ok_goto (xdd xB_125 dX8_comes_41) rfl) <|
  xA0 (ok_iload (xdd xB_125 dX8_comes_44) rfl) <|
  xAR (ok_ireturn (xdd xB_125 dX8_comes_46) rfl) <|
  xAe
theorem xe_125 {s0 : State} {A0 : Array Value} {D : va_G} {ta : Nat → ClassId} {l : Launch} : XAllC s0 A0 D ta l 125 xk_125 := ⟨xe_125_0, xe_125_1, trivial⟩
theorem xe_126_0 {s0 : State} {A0 : Array Value} {D : va_G} {ta : Nat → ClassId} {l : Launch} : XAll s0 A0 D ta l 126 xk_126_0 :=
  xA0 (ok_aload_n (xdd xB_126 dX9_init_0) rfl rfl) <|
  xA1 (ok_obj (xdd xB_126 dX9_init_1) rfl q346 q147 q148) <|
  xA0 (ok_aload_n (xdd xB_126 dX9_init_4) rfl rfl) <|
  xA0 (ok_bipush (xdd xB_126 dX9_init_5) rfl rfl (xrg rfl)) <|
  xA1 (ok_new_int (xdd xB_126 dX9_init_7) rfl) <|
  xA1 (ok_putA (xdd xB_126 dX9_init_9) rfl (lk_f q347) rfl xfd_53 (Or.inr ⟨_, rfl⟩) (Or.inr ⟨rfl, rfl, rfl⟩)) <|
  xA0 (ok_aload_n (xdd xB_126 dX9_init_12) rfl rfl) <|
  xA0 (ok_bipush (xdd xB_126 dX9_init_13) rfl rfl (xrg rfl)) <|
  xA1 (ok_new_int (xdd xB_126 dX9_init_15) rfl) <|
  xA1 (ok_putA (xdd xB_126 dX9_init_17) rfl (lk_f q348) rfl xfd_54 (Or.inr ⟨_, rfl⟩) (Or.inr ⟨rfl, rfl, rfl⟩)) <|
  xA0 (ok_aload_n (xdd xB_126 dX9_init_20) rfl rfl) <|
  xA0 (ok_bipush (xdd xB_126 dX9_init_21) rfl rfl (xrg rfl)) <|
  xA1 (ok_new_int (xdd xB_126 dX9_init_23) rfl) <|
  xA1 (ok_putA (xdd xB_126 dX9_init_25) rfl (lk_f q349) rfl xfd_55 (Or.inr ⟨_, rfl⟩) (Or.inr ⟨rfl, rfl, rfl⟩)) <|
  xA0 (ok_aload_n (xdd xB_126 dX9_init_28) rfl rfl) <|
  xA0 (ok_bipush (xdd xB_126 dX9_init_29) rfl rfl (xrg rfl)) <|
  xA1 (ok_new_int (xdd xB_126 dX9_init_31) rfl) <|
  xAe
theorem xe_126_1 {s0 : State} {A0 : Array Value} {D : va_G} {ta : Nat → ClassId} {l : Launch} : XAll s0 A0 D ta l 126 xk_126_1 :=
  xA1 (ok_putA (xdd xB_126 dX9_init_33) rfl (lk_f q350) rfl xfd_56 (Or.inr ⟨_, rfl⟩) (Or.inr ⟨rfl, rfl, rfl⟩)) <|
  xAR (ok_vreturn (xdd xB_126 dX9_init_36) rfl) <|
  xAe
theorem xe_126 {s0 : State} {A0 : Array Value} {D : va_G} {ta : Nat → ClassId} {l : Launch} : XAllC s0 A0 D ta l 126 xk_126 := ⟨xe_126_0, xe_126_1, trivial⟩
theorem xe_127_0 {s0 : State} {A0 : Array Value} {D : va_G} {ta : Nat → ClassId} {l : Launch} : XAll s0 A0 D ta l 127 xk_127_0 :=
  xA0 (ok_aload_n (xdd xB_127 dX9_seek_0) rfl rfl) <|
  xA0 (ok_aload_n (xdd xB_127 dX9_seek_1) rfl rfl) <|
  xA1 (ok_putA (xdd xB_127 dX9_seek_2) rfl (lk_f q351) rfl xfd_57 (Or.inl ⟨_, rfl⟩) (Or.inl rfl)) <|
  xA0 (ok_aload_n (xdd xB_127 dX9_seek_5) rfl rfl) <|
  xA0 (ok_aload_n (xdd xB_127 dX9_seek_6) rfl rfl) <|
  xA1 (ok_putA (xdd xB_127 dX9_seek_7) rfl (lk_f q352) rfl xfd_58 (Or.inl ⟨_, rfl⟩) (Or.inl rfl)) <|
  xA0 (ok_aload_n (xdd xB_127 dX9_seek_10) rfl rfl) <|
  xA0 (ok_iconst (xdd xB_127 dX9_seek_11) rfl rfl (xrg rfl)) <|
  xA1 (ok_putI (xdd xB_127 dX9_seek_12) rfl (lk_f q353) rfl xfd_59 (Or.inl rfl)) <|
  xA0 (ok_iconst (xdd xB_127 dX9_seek_15) rfl rfl (xrg rfl)) <|
  xA0 (ok_istore_n (xdd xB_127 dX9_seek_16) rfl rfl) <|
  xA0 (ok_iload_n (xdd xB_127 dX9_seek_17) rfl rfl) <|
  xA0 (ok_bipush (xdd xB_127 dX9_seek_18) rfl rfl (xrg rfl)) <|
  xAB (ok_icmp_ge (xdd xB_127 dX9_seek_20) rfl rfl) <|
  xA0 (ok_aload_n (xdd xB_127 dX9_seek_23) rfl rfl) <|
  xA1 (ok_getA (xdd xB_127 dX9_seek_24) rfl (lk_f q350) rfl) <|
  xA0 (ok_iload_n (xdd xB_127 dX9_seek_27) rfl rfl) <|
  xA0 (ok_iconst (xdd xB_127 dX9_seek_28) rfl rfl (xrg rfl)) <|
  xA1 (ok_iastore (xdd xB_127 dX9_seek_29) rfl) <|
  xA1 (ok_iinc (xdd xB_127 dX9_seek_30) rfl) <|
  xAe
theorem xe_127_1 {s0 : State} {A0 : Array Value} {D : va_G} {ta : Nat → ClassId} {l : Launch} : XAll s0 A0 D ta l 127 xk_127_1 :=
  xA0 (ok_goto (xdd xB_127 dX9_seek_33) rfl) <|
  xA0 (ok_iconst (xdd xB_127 dX9_seek_36) rfl rfl (xrg rfl)) <|
  xA0 (ok_istore_n (xdd xB_127 dX9_seek_37) rfl rfl) <|
  xA0 (ok_iconst (xdd xB_127 dX9_seek_38) rfl rfl (xrg rfl)) <|
  xA0 (ok_istore (xdd xB_127 dX9_seek_39) rfl) <|
  xA0 (ok_iload (xdd xB_127 dX9_seek_41) rfl) <|
  xA0 (ok_bipush (xdd xB_127 dX9_seek_43) rfl rfl (xrg rfl)) <|
  xAB (ok_icmp_ge (xdd xB_127 dX9_seek_45) rfl rfl) <|
  xA0 (ok_aload_n (xdd xB_127 dX9_seek_48) rfl rfl) <|
  xA1 (ok_getA (xdd xB_127 dX9_seek_49) rfl (lk_f q349) rfl) <|
  xA0 (ok_iload (xdd xB_127 dX9_seek_52) rfl) <|
  xA0 (ok_iconst (xdd xB_127 dX9_seek_54) rfl rfl (xrg rfl)) <|
  xA1 (ok_iastore (xdd xB_127 dX9_seek_55) rfl) <|
  xA0 (ok_iload (xdd xB_127 dX9_seek_56) rfl) <|
  xA0 (ok_aload_n (xdd xB_127 dX9_seek_58) rfl rfl) <|
  xA1 (ok_getI (xdd xB_127 dX9_seek_59) rfl (lk_f q525) (by decide)) <|
  xAB (ok_icmp_ge (xdd xB_127 dX9_seek_62) rfl rfl) <|
  xAe
theorem xe_127_2 {s0 : State} {A0 : Array Value} {D : va_G} {ta : Nat → ClassId} {l : Launch} : XAll s0 A0 D ta l 127 xk_127_2 :=
  xA0 (ok_aload_n (xdd xB_127 dX9_seek_65) rfl rfl) <|
  xA1 (ok_getA (xdd xB_127 dX9_seek_66) rfl (lk_f q272) rfl) <|
  xA0 (ok_iload (xdd xB_127 dX9_seek_69) rfl) <|
  xA1 (ok_iaload (xdd xB_127 dX9_seek_71) rfl) <|
  xA0 (ok_bipush (xdd xB_127 dX9_seek_72) rfl rfl (xrg rfl)) <|
  xAB (ok_icmp_eq (xdd xB_127 dX9_seek_74) rfl rfl) <|
  xA0 (ok_iload_n (xdd xB_127 dX9_seek_77) rfl rfl) <|
  xA0 (ok_iconst (xdd xB_127 dX9_seek_78) rfl rfl (xrg rfl)) <|
  xA0 (ok_aload_n (xdd xB_127 dX9_seek_79) rfl rfl) <|
  xA1 (ok_getA (xdd xB_127 dX9_seek_80) rfl (lk_f q272) rfl) <|
  xA0 (ok_iload (xdd xB_127 dX9_seek_83) rfl) <|
  xA1 (ok_iaload (xdd xB_127 dX9_seek_85) rfl) <|
  xA1 (ok_ishl (xdd xB_127 dX9_seek_86) rfl) <|
  xA0 (ok_ior (xdd xB_127 dX9_seek_87) rfl) <|
  xA0 (ok_istore_n (xdd xB_127 dX9_seek_88) rfl rfl) <|
  xA1 (ok_iinc (xdd xB_127 dX9_seek_89) rfl) <|
  xA0 (ok_goto (xdd xB_127 dX9_seek_92) rfl) <|
  xA0 (ok_aload_n (xdd xB_127 dX9_seek_95) rfl rfl) <|
  xAe
theorem xe_127_3 {s0 : State} {A0 : Array Value} {D : va_G} {ta : Nat → ClassId} {l : Launch} : XAll s0 A0 D ta l 127 xk_127_3 :=
  xA0 (ok_iconst (xdd xB_127 dX9_seek_96) rfl rfl (xrg rfl)) <|
  xA0 (ok_iload_n (xdd xB_127 dX9_seek_97) rfl rfl) <|
  xAK rfl (xC1 (ok_callV (xdd xB_127 dX9_seek_98) rfl xq_7 rfl xp_128_2 q1125 q1127 qs34 q122 q1128) xC0) <|
  xAR (ok_vreturn (xdd xB_127 dX9_seek_101) rfl) <|
  xAe
theorem xe_127 {s0 : State} {A0 : Array Value} {D : va_G} {ta : Nat → ClassId} {l : Launch} : XAllC s0 A0 D ta l 127 xk_127 := ⟨xe_127_0, xe_127_1, xe_127_2, xe_127_3, trivial⟩
theorem xe_128_0 {s0 : State} {A0 : Array Value} {D : va_G} {ta : Nat → ClassId} {l : Launch} : XAll s0 A0 D ta l 128 xk_128_0 :=
  xA0 (ok_iload_n (xdd xB_128 dX9_tries_0) rfl rfl) <|
  xA0 (ok_aload_n (xdd xB_128 dX9_tries_1) rfl rfl) <|
  xA1 (ok_getA (xdd xB_128 dX9_tries_2) rfl (lk_f q351) rfl) <|
  xA1 (ok_getI (xdd xB_128 dX9_tries_5) rfl (lk_f q525) (by decide)) <|
  xAB (ok_icmp_ne (xdd xB_128 dX9_tries_8) rfl rfl) <|
  xA0 (ok_aload_n (xdd xB_128 dX9_tries_11) rfl rfl) <|
  xAK rfl (xC1 (ok_callV (xdd xB_128 dX9_tries_12) rfl xq_7 rfl xp_129_0 q1129 q1131 qs35 q122 q1132) xC0) <|
  xAR (ok_vreturn (xdd xB_128 dX9_tries_15) rfl) <|
  xA0 (ok_aload_n (xdd xB_128 dX9_tries_16) rfl rfl) <|
  xA1 (ok_getA (xdd xB_128 dX9_tries_17) rfl (lk_f q352) rfl) <|
  xA1 (ok_getA (xdd xB_128 dX9_tries_20) rfl (lk_f q272) rfl) <|
  xA0 (ok_iload_n (xdd xB_128 dX9_tries_23) rfl rfl) <|
  xA1 (ok_iaload (xdd xB_128 dX9_tries_24) rfl) <|
  xA0 (ok_bipush (xdd xB_128 dX9_tries_25) rfl rfl (xrg rfl)) <|
  xAB (ok_icmp_eq (xdd xB_128 dX9_tries_27) rfl rfl) <|
  xA0 (ok_aload_n (xdd xB_128 dX9_tries_30) rfl rfl) <|
  xA1 (ok_getA (xdd xB_128 dX9_tries_31) rfl (lk_f q347) rfl) <|
  xAe
theorem xe_128_1 {s0 : State} {A0 : Array Value} {D : va_G} {ta : Nat → ClassId} {l : Launch} : XAll s0 A0 D ta l 128 xk_128_1 :=
  xA0 (ok_iload_n (xdd xB_128 dX9_tries_34) rfl rfl) <|
  xA0 (ok_aload_n (xdd xB_128 dX9_tries_35) rfl rfl) <|
  xA1 (ok_getA (xdd xB_128 dX9_tries_36) rfl (lk_f q352) rfl) <|
  xA1 (ok_getA (xdd xB_128 dX9_tries_39) rfl (lk_f q272) rfl) <|
  xA0 (ok_iload_n (xdd xB_128 dX9_tries_42) rfl rfl) <|
  xA1 (ok_iaload (xdd xB_128 dX9_tries_43) rfl) <|
  xA1 (ok_iastore (xdd xB_128 dX9_tries_44) rfl) <|
  xA0 (ok_aload_n (xdd xB_128 dX9_tries_45) rfl rfl) <|
  xA0 (ok_iload_n (xdd xB_128 dX9_tries_46) rfl rfl) <|
  xA0 (ok_iconst (xdd xB_128 dX9_tries_47) rfl rfl (xrg rfl)) <|
  xA1 (ok_iadd (xdd xB_128 dX9_tries_48) rfl) <|
  xA0 (ok_iload_n (xdd xB_128 dX9_tries_49) rfl rfl) <|
  xAK rfl (xC1 (ok_callV (xdd xB_128 dX9_tries_50) rfl xq_7 rfl xp_128_2 q1125 q1127 qs34 q122 q1128) xC0) <|
  xAR (ok_vreturn (xdd xB_128 dX9_tries_53) rfl) <|
  xA0 (ok_iconst (xdd xB_128 dX9_tries_54) rfl rfl (xrg rfl)) <|
  xA0 (ok_istore_n (xdd xB_128 dX9_tries_55) rfl rfl) <|
  xA0 (ok_iload_n (xdd xB_128 dX9_tries_56) rfl rfl) <|
  xA0 (ok_aload_n (xdd xB_128 dX9_tries_57) rfl rfl) <|
  xA1 (ok_getA (xdd xB_128 dX9_tries_58) rfl (lk_f q351) rfl) <|
  xA1 (ok_getI (xdd xB_128 dX9_tries_61) rfl (lk_f q525) (by decide)) <|
  xAe
theorem xe_128_2 {s0 : State} {A0 : Array Value} {D : va_G} {ta : Nat → ClassId} {l : Launch} : XAll s0 A0 D ta l 128 xk_128_2 :=
  xAB (ok_icmp_ge (xdd xB_128 dX9_tries_64) rfl rfl) <|
  xA0 (ok_iload_n (xdd xB_128 dX9_tries_67) rfl rfl) <|
  xA0 (ok_iload_n (xdd xB_128 dX9_tries_68) rfl rfl) <|
  xAK rfl (xC1 (ok_callSN (xdd xB_128 dX9_tries_69) rfl xp_12_2 q1134 q974 q111 q975) xC0) <|
  xAB (ok_if_ne (xdd xB_128 dX9_tries_72) rfl rfl) <|
  xA0 (ok_aload_n (xdd xB_128 dX9_tries_75) rfl rfl) <|
  xA1 (ok_getA (xdd xB_128 dX9_tries_76) rfl (lk_f q351) rfl) <|
  xA0 (ok_iload_n (xdd xB_128 dX9_tries_79) rfl rfl) <|
  xA0 (ok_iload_n (xdd xB_128 dX9_tries_80) rfl rfl) <|
  xAK rfl (xC1 (ok_callV (xdd xB_128 dX9_tries_81) rfl xq_10 rfl xp_260_2 q1135 q1136 q1137 q125 q1138) xC0) <|
  xAB (ok_if_ne (xdd xB_128 dX9_tries_84) rfl rfl) <|
  xA0 (ok_goto (xdd xB_128 dX9_tries_87) rfl) <|
  xA0 (ok_aload_n (xdd xB_128 dX9_tries_90) rfl rfl) <|
  xA1 (ok_getA (xdd xB_128 dX9_tries_91) rfl (lk_f q347) rfl) <|
  xA0 (ok_iload_n (xdd xB_128 dX9_tries_94) rfl rfl) <|
  xA0 (ok_iload_n (xdd xB_128 dX9_tries_95) rfl rfl) <|
  xAe
theorem xe_128_3 {s0 : State} {A0 : Array Value} {D : va_G} {ta : Nat → ClassId} {l : Launch} : XAll s0 A0 D ta l 128 xk_128_3 :=
  xA1 (ok_iastore (xdd xB_128 dX9_tries_96) rfl) <|
  xA0 (ok_aload_n (xdd xB_128 dX9_tries_97) rfl rfl) <|
  xA0 (ok_iload_n (xdd xB_128 dX9_tries_98) rfl rfl) <|
  xA0 (ok_iconst (xdd xB_128 dX9_tries_99) rfl rfl (xrg rfl)) <|
  xA1 (ok_iadd (xdd xB_128 dX9_tries_100) rfl) <|
  xA0 (ok_iload_n (xdd xB_128 dX9_tries_101) rfl rfl) <|
  xA0 (ok_iconst (xdd xB_128 dX9_tries_102) rfl rfl (xrg rfl)) <|
  xA0 (ok_iload_n (xdd xB_128 dX9_tries_103) rfl rfl) <|
  xA1 (ok_ishl (xdd xB_128 dX9_tries_104) rfl) <|
  xA0 (ok_ior (xdd xB_128 dX9_tries_105) rfl) <|
  xAK rfl (xC1 (ok_callV (xdd xB_128 dX9_tries_106) rfl xq_7 rfl xp_128_2 q1125 q1127 qs34 q122 q1128) xC0) <|
  xA1 (ok_iinc (xdd xB_128 dX9_tries_109) rfl) <|
  xA0 (ok_goto (xdd xB_128 dX9_tries_112) rfl) <|
  xAR (ok_vreturn (xdd xB_128 dX9_tries_115) rfl) <|
  xAe
theorem xe_128 {s0 : State} {A0 : Array Value} {D : va_G} {ta : Nat → ClassId} {l : Launch} : XAllC s0 A0 D ta l 128 xk_128 := ⟨xe_128_0, xe_128_1, xe_128_2, xe_128_3, trivial⟩
theorem xe_129_0 {s0 : State} {A0 : Array Value} {D : va_G} {ta : Nat → ClassId} {l : Launch} : XAll s0 A0 D ta l 129 xk_129_0 :=
  xA0 (ok_aload_n (xdd xB_129 dX9_note_0) rfl rfl) <|
  xA1 (ok_getI (xdd xB_129 dX9_note_1) rfl (lk_f q353) (by decide)) <|
  xAB (ok_if_ne (xdd xB_129 dX9_note_4) rfl rfl) <|
  xA0 (ok_aload_n (xdd xB_129 dX9_note_7) rfl rfl) <|
  xA1 (ok_getA (xdd xB_129 dX9_note_8) rfl (lk_f q347) rfl) <|
  xA0 (ok_iconst (xdd xB_129 dX9_note_11) rfl rfl (xrg rfl)) <|
  xA0 (ok_aload_n (xdd xB_129 dX9_note_12) rfl rfl) <|
  xA1 (ok_getA (xdd xB_129 dX9_note_13) rfl (lk_f q348) rfl) <|
  xA0 (ok_iconst (xdd xB_129 dX9_note_16) rfl rfl (xrg rfl)) <|
  xA0 (ok_bipush (xdd xB_129 dX9_note_17) rfl rfl (xrg rfl)) <|
  xA1 (ok_copy (xdd xB_129 dX9_note_19) rfl q1133) <|
  xA0 (ok_aload_n (xdd xB_129 dX9_note_22) rfl rfl) <|
  xA0 (ok_dup (xdd xB_129 dX9_note_23) rfl) <|
  xA1 (ok_getI (xdd xB_129 dX9_note_24) rfl (lk_f q353) (by decide)) <|
  xA0 (ok_iconst (xdd xB_129 dX9_note_27) rfl rfl (xrg rfl)) <|
  xA1 (ok_iadd (xdd xB_129 dX9_note_28) rfl) <|
  xA1 (ok_putI (xdd xB_129 dX9_note_29) rfl (lk_f q353) rfl xfd_59 (Or.inl rfl)) <|
  xAe
theorem xe_129_1 {s0 : State} {A0 : Array Value} {D : va_G} {ta : Nat → ClassId} {l : Launch} : XAll s0 A0 D ta l 129 xk_129_1 :=
  xA0 (ok_iconst (xdd xB_129 dX9_note_32) rfl rfl (xrg rfl)) <|
  xA0 (ok_istore_n (xdd xB_129 dX9_note_33) rfl rfl) <|
  xA0 (ok_iload_n (xdd xB_129 dX9_note_34) rfl rfl) <|
  xA0 (ok_aload_n (xdd xB_129 dX9_note_35) rfl rfl) <|
  xA1 (ok_getA (xdd xB_129 dX9_note_36) rfl (lk_f q351) rfl) <|
  xA1 (ok_getI (xdd xB_129 dX9_note_39) rfl (lk_f q525) (by decide)) <|
  xAB (ok_icmp_ge (xdd xB_129 dX9_note_42) rfl rfl) <|
  xA0 (ok_aload_n (xdd xB_129 dX9_note_45) rfl rfl) <|
  xA1 (ok_getA (xdd xB_129 dX9_note_46) rfl (lk_f q349) rfl) <|
  xA0 (ok_iload_n (xdd xB_129 dX9_note_49) rfl rfl) <|
  xA0 (ok_dup2 (xdd xB_129 dX9_note_50) rfl) <|
  xA1 (ok_iaload (xdd xB_129 dX9_note_51) rfl) <|
  xA0 (ok_iconst (xdd xB_129 dX9_note_52) rfl rfl (xrg rfl)) <|
  xA0 (ok_aload_n (xdd xB_129 dX9_note_53) rfl rfl) <|
  xA1 (ok_getA (xdd xB_129 dX9_note_54) rfl (lk_f q347) rfl) <|
  xA0 (ok_iload_n (xdd xB_129 dX9_note_57) rfl rfl) <|
  xA1 (ok_iaload (xdd xB_129 dX9_note_58) rfl) <|
  xA1 (ok_ishl (xdd xB_129 dX9_note_59) rfl) <|
  xA0 (ok_ior (xdd xB_129 dX9_note_60) rfl) <|
  xA1 (ok_iastore (xdd xB_129 dX9_note_61) rfl) <|
  xA0 (ok_aload_n (xdd xB_129 dX9_note_62) rfl rfl) <|
  xA1 (ok_getA (xdd xB_129 dX9_note_63) rfl (lk_f q350) rfl) <|
  xAe
theorem xe_129_2 {s0 : State} {A0 : Array Value} {D : va_G} {ta : Nat → ClassId} {l : Launch} : XAll s0 A0 D ta l 129 xk_129_2 :=
  xA0 (ok_bipush (xdd xB_129 dX9_note_66) rfl rfl (xrg rfl)) <|
  xA0 (ok_iload_n (xdd xB_129 dX9_note_68) rfl rfl) <|
  xA1 (ok_imul (xdd xB_129 dX9_note_69) rfl) <|
  xA0 (ok_aload_n (xdd xB_129 dX9_note_70) rfl rfl) <|
  xA1 (ok_getA (xdd xB_129 dX9_note_71) rfl (lk_f q347) rfl) <|
  xA0 (ok_iload_n (xdd xB_129 dX9_note_74) rfl rfl) <|
  xA1 (ok_iaload (xdd xB_129 dX9_note_75) rfl) <|
  xA1 (ok_iadd (xdd xB_129 dX9_note_76) rfl) <|
  xA0 (ok_dup2 (xdd xB_129 dX9_note_77) rfl) <|
  xA1 (ok_iaload (xdd xB_129 dX9_note_78) rfl) <|
  xA0 (ok_iconst (xdd xB_129 dX9_note_79) rfl rfl (xrg rfl)) <|
  xA1 (ok_iadd (xdd xB_129 dX9_note_80) rfl) <|
  xA1 (ok_iastore (xdd xB_129 dX9_note_81) rfl) <|
  xA1 (ok_iinc (xdd xB_129 dX9_note_82) rfl) <|
  xA0 (ok_goto (xdd xB_129 dX9_note_85) rfl) <|
  xAR (ok_vreturn (xdd xB_129 dX9_note_88) rfl) <|
  xAe
theorem xe_129 {s0 : State} {A0 : Array Value} {D : va_G} {ta : Nat → ClassId} {l : Launch} : XAllC s0 A0 D ta l 129 xk_129 := ⟨xe_129_0, xe_129_1, xe_129_2, trivial⟩
theorem xe_130_0 {s0 : State} {A0 : Array Value} {D : va_G} {ta : Nat → ClassId} {l : Launch} : XAll s0 A0 D ta l 130 xk_130_0 :=
  xA0 (ok_aload_n (xdd xB_130 dX9_could_0) rfl rfl) <|
  xA1 (ok_getA (xdd xB_130 dX9_could_1) rfl (lk_f q349) rfl) <|
  xA0 (ok_iload_n (xdd xB_130 dX9_could_4) rfl rfl) <|
  xA1 (ok_iaload (xdd xB_130 dX9_could_5) rfl) <|
  xAR (ok_ireturn (xdd xB_130 dX9_could_6) rfl) <|
  xAe
theorem xe_130 {s0 : State} {A0 : Array Value} {D : va_G} {ta : Nat → ClassId} {l : Launch} : XAllC s0 A0 D ta l 130 xk_130 := ⟨xe_130_0, trivial⟩
theorem xe_131_0 {s0 : State} {A0 : Array Value} {D : va_G} {ta : Nat → ClassId} {l : Launch} : XAll s0 A0 D ta l 131 xk_131_0 :=
  xA0 (ok_iconst (xdd xB_131 dX9_surely_0) rfl rfl (xrg rfl)) <|
  xA0 (ok_istore_n (xdd xB_131 dX9_surely_1) rfl rfl) <|
  xA0 (ok_iload_n (xdd xB_131 dX9_surely_2) rfl rfl) <|
  xA0 (ok_aload_n (xdd xB_131 dX9_surely_3) rfl rfl) <|
  xA1 (ok_getA (xdd xB_131 dX9_surely_4) rfl (lk_f q351) rfl) <|
  xA1 (ok_getI (xdd xB_131 dX9_surely_7) rfl (lk_f q525) (by decide)) <|
  xAB (ok_icmp_ge (xdd xB_131 dX9_surely_10) rfl rfl) <|
  xA0 (ok_aload_n (xdd xB_131 dX9_surely_13) rfl rfl) <|
  xA1 (ok_getI (xdd xB_131 dX9_surely_14) rfl (lk_f q353) (by decide)) <|
  xAB (ok_if_le (xdd xB_131 dX9_surely_17) rfl rfl) <|
  xA0 (ok_aload_n (xdd xB_131 dX9_surely_20) rfl rfl) <|
  xA1 (ok_getA (xdd xB_131 dX9_surely_21) rfl (lk_f q350) rfl) <|
  xA0 (ok_bipush (xdd xB_131 dX9_surely_24) rfl rfl (xrg rfl)) <|
  xA0 (ok_iload_n (xdd xB_131 dX9_surely_26) rfl rfl) <|
  xA1 (ok_imul (xdd xB_131 dX9_surely_27) rfl) <|
  xA0 (ok_iload_n (xdd xB_131 dX9_surely_28) rfl rfl) <|
  xA1 (ok_iadd (xdd xB_131 dX9_surely_29) rfl) <|
  xA1 (ok_iaload (xdd xB_131 dX9_surely_30) rfl) <|
  xA0 (ok_aload_n (xdd xB_131 dX9_surely_31) rfl rfl) <|
  xAe
theorem xe_131_1 {s0 : State} {A0 : Array Value} {D : va_G} {ta : Nat → ClassId} {l : Launch} : XAll s0 A0 D ta l 131 xk_131_1 :=
  xA1 (ok_getI (xdd xB_131 dX9_surely_32) rfl (lk_f q353) (by decide)) <|
  xAB (ok_icmp_ne (xdd xB_131 dX9_surely_35) rfl rfl) <|
  xA0 (ok_iload_n (xdd xB_131 dX9_surely_38) rfl rfl) <|
  xAR (ok_ireturn (xdd xB_131 dX9_surely_39) rfl) <|
  xA1 (ok_iinc (xdd xB_131 dX9_surely_40) rfl) <|
  xA0 (ok_goto (xdd xB_131 dX9_surely_43) rfl) <|
  xA0 (ok_bipush (xdd xB_131 dX9_surely_46) rfl rfl (xrg rfl)) <|
  xAR (ok_ireturn (xdd xB_131 dX9_surely_48) rfl) <|
  xAe
theorem xe_131 {s0 : State} {A0 : Array Value} {D : va_G} {ta : Nat → ClassId} {l : Launch} : XAllC s0 A0 D ta l 131 xk_131 := ⟨xe_131_0, xe_131_1, trivial⟩
theorem xe_132_0 {s0 : State} {A0 : Array Value} {D : va_G} {ta : Nat → ClassId} {l : Launch} : XAll s0 A0 D ta l 132 xk_132_0 :=
  xA0 (ok_aload_n (xdd xB_132 dX9_first_0) rfl rfl) <|
  xA1 (ok_getI (xdd xB_132 dX9_first_1) rfl (lk_f q353) (by decide)) <|
  xAB (ok_if_ne (xdd xB_132 dX9_first_4) rfl rfl) <|
  xA0 (ok_bipush (xdd xB_132 dX9_first_7) rfl rfl (xrg rfl)) <|
  xA0 (ok_goto (xdd xB_132 dX9_first_9) rfl) <|
  xA0 (ok_aload_n (xdd xB_132 dX9_first_12) rfl rfl) <|
  xA1 (ok_getA (xdd xB_132 dX9_first_13) rfl (lk_f q348) rfl) <|
  xA0 (ok_iload_n (xdd xB_132 dX9_first_16) rfl rfl) <|
  xA1 (ok_iaload (xdd xB_132 dX9_first_17) rfl) <|
  xAR (ok_ireturn (xdd xB_132 dX9_first_18) rfl) <|
  xAe
theorem xe_132 {s0 : State} {A0 : Array Value} {D : va_G} {ta : Nat → ClassId} {l : Launch} : XAllC s0 A0 D ta l 132 xk_132 := ⟨xe_132_0, trivial⟩
theorem xe_133_0 {s0 : State} {A0 : Array Value} {D : va_G} {ta : Nat → ClassId} {l : Launch} : XAll s0 A0 D ta l 133 xk_133_0 :=
  xA0 (ok_iconst (xdd xB_133 dX9_leaves_0) rfl rfl (xrg rfl)) <|
  xA0 (ok_istore_n (xdd xB_133 dX9_leaves_1) rfl rfl) <|
  xA0 (ok_iconst (xdd xB_133 dX9_leaves_2) rfl rfl (xrg rfl)) <|
  xA0 (ok_istore_n (xdd xB_133 dX9_leaves_3) rfl rfl) <|
  xA0 (ok_iload_n (xdd xB_133 dX9_leaves_4) rfl rfl) <|
  xA0 (ok_aload_n (xdd xB_133 dX9_leaves_5) rfl rfl) <|
  xA1 (ok_getA (xdd xB_133 dX9_leaves_6) rfl (lk_f q351) rfl) <|
  xA1 (ok_getI (xdd xB_133 dX9_leaves_9) rfl (lk_f q525) (by decide)) <|
  xAB (ok_icmp_ge (xdd xB_133 dX9_leaves_12) rfl rfl) <|
  xA0 (ok_iload_n (xdd xB_133 dX9_leaves_15) rfl rfl) <|
  xA0 (ok_aload_n (xdd xB_133 dX9_leaves_16) rfl rfl) <|
  xA1 (ok_getA (xdd xB_133 dX9_leaves_17) rfl (lk_f q350) rfl) <|
  xA0 (ok_bipush (xdd xB_133 dX9_leaves_20) rfl rfl (xrg rfl)) <|
  xA0 (ok_iload_n (xdd xB_133 dX9_leaves_22) rfl rfl) <|
  xA1 (ok_imul (xdd xB_133 dX9_leaves_23) rfl) <|
  xA0 (ok_iload_n (xdd xB_133 dX9_leaves_24) rfl rfl) <|
  xA1 (ok_iadd (xdd xB_133 dX9_leaves_25) rfl) <|
  xA1 (ok_iaload (xdd xB_133 dX9_leaves_26) rfl) <|
  xA0 (ok_mmax (xdd xB_133 dX9_leaves_27) rfl q1177) <|
  xA0 (ok_istore_n (xdd xB_133 dX9_leaves_30) rfl rfl) <|
  xA1 (ok_iinc (xdd xB_133 dX9_leaves_31) rfl) <|
  xAe
theorem xe_133_1 {s0 : State} {A0 : Array Value} {D : va_G} {ta : Nat → ClassId} {l : Launch} : XAll s0 A0 D ta l 133 xk_133_1 :=
  xA0 (ok_goto (xdd xB_133 dX9_leaves_34) rfl) <|
  xA0 (ok_iload_n (xdd xB_133 dX9_leaves_37) rfl rfl) <|
  xAR (ok_ireturn (xdd xB_133 dX9_leaves_38) rfl) <|
  xAe
theorem xe_133 {s0 : State} {A0 : Array Value} {D : va_G} {ta : Nat → ClassId} {l : Launch} : XAllC s0 A0 D ta l 133 xk_133 := ⟨xe_133_0, xe_133_1, trivial⟩
theorem xe_134_0 {s0 : State} {A0 : Array Value} {D : va_G} {ta : Nat → ClassId} {l : Launch} : XAll s0 A0 D ta l 134 xk_134_0 :=
  xA0 (ok_aload_n (xdd xB_134 dX10_init_0) rfl rfl) <|
  xA1 (ok_obj (xdd xB_134 dX10_init_1) rfl q375 q147 q148) <|
  xA0 (ok_aload_n (xdd xB_134 dX10_init_4) rfl rfl) <|
  xA0 (ok_iconst (xdd xB_134 dX10_init_5) rfl rfl (xrg rfl)) <|
  xA1 (ok_anew_Rooms (xdd xB_134 dX10_init_6) rfl q376) <|
  xA1 (ok_putA (xdd xB_134 dX10_init_9) rfl (lk_f q379) rfl xfd_60 (Or.inr ⟨_, rfl⟩) (Or.inr ⟨rfl, rfl, rfl⟩)) <|
  xA0 (ok_aload_n (xdd xB_134 dX10_init_12) rfl rfl) <|
  xA0 (ok_iconst (xdd xB_134 dX10_init_13) rfl rfl (xrg rfl)) <|
  xA1 (ok_new_int (xdd xB_134 dX10_init_14) rfl) <|
  xA1 (ok_putA (xdd xB_134 dX10_init_16) rfl (lk_f q380) rfl xfd_61 (Or.inr ⟨_, rfl⟩) (Or.inr ⟨rfl, rfl, rfl⟩)) <|
  xA0 (ok_aload_n (xdd xB_134 dX10_init_19) rfl rfl) <|
  xA0 (ok_iconst (xdd xB_134 dX10_init_20) rfl rfl (xrg rfl)) <|
  xA1 (ok_new_int (xdd xB_134 dX10_init_21) rfl) <|
  xA1 (ok_putA (xdd xB_134 dX10_init_23) rfl (lk_f q381) rfl xfd_62 (Or.inr ⟨_, rfl⟩) (Or.inr ⟨rfl, rfl, rfl⟩)) <|
  xA0 (ok_iconst (xdd xB_134 dX10_init_26) rfl rfl (xrg rfl)) <|
  xA0 (ok_istore_n (xdd xB_134 dX10_init_27) rfl rfl) <|
  xA0 (ok_iload_n (xdd xB_134 dX10_init_28) rfl rfl) <|
  xA0 (ok_iconst (xdd xB_134 dX10_init_29) rfl rfl (xrg rfl)) <|
  xAB (ok_icmp_gt (xdd xB_134 dX10_init_30) rfl rfl) <|
  xAe
theorem xe_134_1 {s0 : State} {A0 : Array Value} {D : va_G} {ta : Nat → ClassId} {l : Launch} : XAll s0 A0 D ta l 134 xk_134_1 :=
  xA0 (ok_aload_n (xdd xB_134 dX10_init_33) rfl rfl) <|
  xA1 (ok_getA (xdd xB_134 dX10_init_34) rfl (lk_f q379) rfl) <|
  xA0 (ok_iload_n (xdd xB_134 dX10_init_37) rfl rfl) <|
  xA0 (ok_newo (xdd xB_134 dX10_init_38) rfl xq_3 q376 q265 q117) <|
  xA0 (ok_dup (xdd xB_134 dX10_init_41) rfl) <|
  xAK rfl (xC1 (ok_callIN (xdd xB_134 dX10_init_42) rfl xq_3 rfl rfl xp_105_0 q378 q267 q117 q268) xC0) <|
  xA1 (ok_aastore (xdd xB_134 dX10_init_45) rfl) <|
  xA1 (ok_iinc (xdd xB_134 dX10_init_46) rfl) <|
  xA0 (ok_goto (xdd xB_134 dX10_init_49) rfl) <|
  xAR (ok_vreturn (xdd xB_134 dX10_init_52) rfl) <|
  xAe
theorem xe_134 {s0 : State} {A0 : Array Value} {D : va_G} {ta : Nat → ClassId} {l : Launch} : XAllC s0 A0 D ta l 134 xk_134 := ⟨xe_134_0, xe_134_1, trivial⟩
theorem xe_135_0 {s0 : State} {A0 : Array Value} {D : va_G} {ta : Nat → ClassId} {l : Launch} : XAll s0 A0 D ta l 135 xk_135_0 :=
  xA0 (ok_aload_n (xdd xB_135 dX10_seek_0) rfl rfl) <|
  xA0 (ok_aload_n (xdd xB_135 dX10_seek_1) rfl rfl) <|
  xA1 (ok_putA (xdd xB_135 dX10_seek_2) rfl (lk_f q382) rfl xfd_63 (Or.inl ⟨_, rfl⟩) (Or.inl rfl)) <|
  xA0 (ok_aload_n (xdd xB_135 dX10_seek_5) rfl rfl) <|
  xA0 (ok_iconst (xdd xB_135 dX10_seek_6) rfl rfl (xrg rfl)) <|
  xA1 (ok_putI (xdd xB_135 dX10_seek_7) rfl (lk_f q383) rfl xfd_64 (Or.inl rfl)) <|
  xA0 (ok_aload_n (xdd xB_135 dX10_seek_10) rfl rfl) <|
  xA0 (ok_iconst (xdd xB_135 dX10_seek_11) rfl rfl (xrg rfl)) <|
  xA1 (ok_putI (xdd xB_135 dX10_seek_12) rfl (lk_f q385) rfl xfd_65 (Or.inl rfl)) <|
  xA0 (ok_aload_n (xdd xB_135 dX10_seek_15) rfl rfl) <|
  xA1 (ok_getA (xdd xB_135 dX10_seek_16) rfl (lk_f q379) rfl) <|
  xA0 (ok_iconst (xdd xB_135 dX10_seek_19) rfl rfl (xrg rfl)) <|
  xA1 (ok_aaload (xdd xB_135 dX10_seek_20) rfl) <|
  xA0 (ok_aload_n (xdd xB_135 dX10_seek_21) rfl rfl) <|
  xAK rfl (xC1 (ok_callV (xdd xB_135 dX10_seek_22) rfl xq_3 rfl xp_112_1 q1218 q1219 q1220 q117 q1221) xC0) <|
  xA0 (ok_iconst (xdd xB_135 dX10_seek_25) rfl rfl (xrg rfl)) <|
  xA0 (ok_istore_n (xdd xB_135 dX10_seek_26) rfl rfl) <|
  xA0 (ok_iload_n (xdd xB_135 dX10_seek_27) rfl rfl) <|
  xA0 (ok_iconst (xdd xB_135 dX10_seek_28) rfl rfl (xrg rfl)) <|
  xAB (ok_icmp_gt (xdd xB_135 dX10_seek_29) rfl rfl) <|
  xAe
theorem xe_135_1 {s0 : State} {A0 : Array Value} {D : va_G} {ta : Nat → ClassId} {l : Launch} : XAll s0 A0 D ta l 135 xk_135_1 :=
  xA0 (ok_aload_n (xdd xB_135 dX10_seek_32) rfl rfl) <|
  xA0 (ok_iconst (xdd xB_135 dX10_seek_33) rfl rfl (xrg rfl)) <|
  xA0 (ok_iload_n (xdd xB_135 dX10_seek_34) rfl rfl) <|
  xAK rfl (xC1 (ok_callV (xdd xB_135 dX10_seek_35) rfl xq_8 rfl xp_136_2 q1223 q1225 qs38 q123 q1226) xC0) <|
  xA1 (ok_iinc (xdd xB_135 dX10_seek_38) rfl) <|
  xA0 (ok_goto (xdd xB_135 dX10_seek_41) rfl) <|
  xAR (ok_vreturn (xdd xB_135 dX10_seek_44) rfl) <|
  xAe
theorem xe_135 {s0 : State} {A0 : Array Value} {D : va_G} {ta : Nat → ClassId} {l : Launch} : XAllC s0 A0 D ta l 135 xk_135 := ⟨xe_135_0, xe_135_1, trivial⟩
theorem xe_136_0 {s0 : State} {A0 : Array Value} {D : va_G} {ta : Nat → ClassId} {l : Launch} : XAll s0 A0 D ta l 136 xk_136_0 :=
  xA0 (ok_iload_n (xdd xB_136 dX10_tries_0) rfl rfl) <|
  xA0 (ok_iload_n (xdd xB_136 dX10_tries_1) rfl rfl) <|
  xAB (ok_icmp_ne (xdd xB_136 dX10_tries_2) rfl rfl) <|
  xA0 (ok_aload_n (xdd xB_136 dX10_tries_5) rfl rfl) <|
  xA1 (ok_getA (xdd xB_136 dX10_tries_6) rfl (lk_f q379) rfl) <|
  xA0 (ok_iload_n (xdd xB_136 dX10_tries_9) rfl rfl) <|
  xA1 (ok_aaload (xdd xB_136 dX10_tries_10) rfl) <|
  xAK rfl (xC1 (ok_callV (xdd xB_136 dX10_tries_11) rfl xq_3 rfl xp_109_0 q1227 q1024 q1025 q117 q1026) xC0) <|
  xAK rfl (xC1 (ok_callSN (xdd xB_136 dX10_tries_14) rfl xp_44_1 q1228 q1229 q111 q1230) xC0) <|
  xA0 (ok_istore_n (xdd xB_136 dX10_tries_17) rfl rfl) <|
  xA0 (ok_iload_n (xdd xB_136 dX10_tries_18) rfl rfl) <|
  xA0 (ok_aload_n (xdd xB_136 dX10_tries_19) rfl rfl) <|
  xA1 (ok_getI (xdd xB_136 dX10_tries_20) rfl (lk_f q383) (by decide)) <|
  xAB (ok_icmp_gt (xdd xB_136 dX10_tries_23) rfl rfl) <|
  xAR (ok_vreturn (xdd xB_136 dX10_tries_26) rfl) <|
  xA0 (ok_aload_n (xdd xB_136 dX10_tries_27) rfl rfl) <|
  xA0 (ok_iload_n (xdd xB_136 dX10_tries_28) rfl rfl) <|
  xA1 (ok_putI (xdd xB_136 dX10_tries_29) rfl (lk_f q383) rfl xfd_64 (Or.inl rfl)) <|
  xAe
theorem xe_136_1 {s0 : State} {A0 : Array Value} {D : va_G} {ta : Nat → ClassId} {l : Launch} : XAll s0 A0 D ta l 136 xk_136_1 :=
  xA0 (ok_aload_n (xdd xB_136 dX10_tries_32) rfl rfl) <|
  xA0 (ok_iload_n (xdd xB_136 dX10_tries_33) rfl rfl) <|
  xA1 (ok_putI (xdd xB_136 dX10_tries_34) rfl (lk_f q385) rfl xfd_65 (Or.inl rfl)) <|
  xA0 (ok_aload_n (xdd xB_136 dX10_tries_37) rfl rfl) <|
  xA1 (ok_getA (xdd xB_136 dX10_tries_38) rfl (lk_f q380) rfl) <|
  xA0 (ok_iconst (xdd xB_136 dX10_tries_41) rfl rfl (xrg rfl)) <|
  xA0 (ok_aload_n (xdd xB_136 dX10_tries_42) rfl rfl) <|
  xA1 (ok_getA (xdd xB_136 dX10_tries_43) rfl (lk_f q381) rfl) <|
  xA0 (ok_iconst (xdd xB_136 dX10_tries_46) rfl rfl (xrg rfl)) <|
  xA0 (ok_iconst (xdd xB_136 dX10_tries_47) rfl rfl (xrg rfl)) <|
  xA1 (ok_copy (xdd xB_136 dX10_tries_48) rfl q1231) <|
  xAR (ok_vreturn (xdd xB_136 dX10_tries_51) rfl) <|
  xA0 (ok_iconst (xdd xB_136 dX10_tries_52) rfl rfl (xrg rfl)) <|
  xA0 (ok_istore_n (xdd xB_136 dX10_tries_53) rfl rfl) <|
  xA0 (ok_iload_n (xdd xB_136 dX10_tries_54) rfl rfl) <|
  xA0 (ok_aload_n (xdd xB_136 dX10_tries_55) rfl rfl) <|
  xA1 (ok_getA (xdd xB_136 dX10_tries_56) rfl (lk_f q382) rfl) <|
  xA1 (ok_getI (xdd xB_136 dX10_tries_59) rfl (lk_f q526) (by decide)) <|
  xAB (ok_icmp_ge (xdd xB_136 dX10_tries_62) rfl rfl) <|
  xAe
theorem xe_136_2 {s0 : State} {A0 : Array Value} {D : va_G} {ta : Nat → ClassId} {l : Launch} : XAll s0 A0 D ta l 136 xk_136_2 :=
  xA0 (ok_iload_n (xdd xB_136 dX10_tries_65) rfl rfl) <|
  xA0 (ok_iconst (xdd xB_136 dX10_tries_66) rfl rfl (xrg rfl)) <|
  xA1 (ok_iadd (xdd xB_136 dX10_tries_67) rfl) <|
  xA0 (ok_istore (xdd xB_136 dX10_tries_68) rfl) <|
  xA0 (ok_iload (xdd xB_136 dX10_tries_70) rfl) <|
  xA0 (ok_aload_n (xdd xB_136 dX10_tries_72) rfl rfl) <|
  xA1 (ok_getA (xdd xB_136 dX10_tries_73) rfl (lk_f q382) rfl) <|
  xA1 (ok_getI (xdd xB_136 dX10_tries_76) rfl (lk_f q526) (by decide)) <|
  xAB (ok_icmp_ge (xdd xB_136 dX10_tries_79) rfl rfl) <|
  xA0 (ok_aload_n (xdd xB_136 dX10_tries_82) rfl rfl) <|
  xA1 (ok_getA (xdd xB_136 dX10_tries_83) rfl (lk_f q379) rfl) <|
  xA0 (ok_iload_n (xdd xB_136 dX10_tries_86) rfl rfl) <|
  xA1 (ok_aaload (xdd xB_136 dX10_tries_87) rfl) <|
  xA0 (ok_iload_n (xdd xB_136 dX10_tries_88) rfl rfl) <|
  xA0 (ok_iload (xdd xB_136 dX10_tries_89) rfl) <|
  xAK rfl (xC1 (ok_callV (xdd xB_136 dX10_tries_91) rfl xq_3 rfl xp_113_2 q1232 q1233 q1234 q117 q1235) xC0) <|
  xAB (ok_if_ne (xdd xB_136 dX10_tries_94) rfl rfl) <|
  xAe
theorem xe_136_3 {s0 : State} {A0 : Array Value} {D : va_G} {ta : Nat → ClassId} {l : Launch} : XAll s0 A0 D ta l 136 xk_136_3 :=
  xA0 (ok_goto (xdd xB_136 dX10_tries_97) rfl) <|
  xA0 (ok_aload_n (xdd xB_136 dX10_tries_100) rfl rfl) <|
  xA1 (ok_getA (xdd xB_136 dX10_tries_101) rfl (lk_f q379) rfl) <|
  xA0 (ok_iload_n (xdd xB_136 dX10_tries_104) rfl rfl) <|
  xA0 (ok_iconst (xdd xB_136 dX10_tries_105) rfl rfl (xrg rfl)) <|
  xA1 (ok_iadd (xdd xB_136 dX10_tries_106) rfl) <|
  xA1 (ok_aaload (xdd xB_136 dX10_tries_107) rfl) <|
  xA0 (ok_aload_n (xdd xB_136 dX10_tries_108) rfl rfl) <|
  xA1 (ok_getA (xdd xB_136 dX10_tries_109) rfl (lk_f q379) rfl) <|
  xA0 (ok_iload_n (xdd xB_136 dX10_tries_112) rfl rfl) <|
  xA1 (ok_aaload (xdd xB_136 dX10_tries_113) rfl) <|
  xAK rfl (xC1 (ok_callV (xdd xB_136 dX10_tries_114) rfl xq_3 rfl xp_112_1 q1218 q1219 q1220 q117 q1221) xC0) <|
  xA0 (ok_aload_n (xdd xB_136 dX10_tries_117) rfl rfl) <|
  xA1 (ok_getA (xdd xB_136 dX10_tries_118) rfl (lk_f q379) rfl) <|
  xA0 (ok_iload_n (xdd xB_136 dX10_tries_121) rfl rfl) <|
  xA0 (ok_iconst (xdd xB_136 dX10_tries_122) rfl rfl (xrg rfl)) <|
  xA1 (ok_iadd (xdd xB_136 dX10_tries_123) rfl) <|
  xA1 (ok_aaload (xdd xB_136 dX10_tries_124) rfl) <|
  xA0 (ok_iload_n (xdd xB_136 dX10_tries_125) rfl rfl) <|
  xA0 (ok_iload (xdd xB_136 dX10_tries_126) rfl) <|
  xAe
theorem xe_136_4 {s0 : State} {A0 : Array Value} {D : va_G} {ta : Nat → ClassId} {l : Launch} : XAll s0 A0 D ta l 136 xk_136_4 :=
  xAK rfl (xC1 (ok_callV (xdd xB_136 dX10_tries_128) rfl xq_3 rfl xp_114_2 q1236 q1237 q1238 q117 q1239) xC0) <|
  xA0 (ok_aload_n (xdd xB_136 dX10_tries_131) rfl rfl) <|
  xA1 (ok_getA (xdd xB_136 dX10_tries_132) rfl (lk_f q380) rfl) <|
  xA0 (ok_iload_n (xdd xB_136 dX10_tries_135) rfl rfl) <|
  xA0 (ok_bipush (xdd xB_136 dX10_tries_136) rfl rfl (xrg rfl)) <|
  xA0 (ok_iload_n (xdd xB_136 dX10_tries_138) rfl rfl) <|
  xA1 (ok_imul (xdd xB_136 dX10_tries_139) rfl) <|
  xA0 (ok_iload (xdd xB_136 dX10_tries_140) rfl) <|
  xA1 (ok_iadd (xdd xB_136 dX10_tries_142) rfl) <|
  xA1 (ok_iastore (xdd xB_136 dX10_tries_143) rfl) <|
  xA0 (ok_aload_n (xdd xB_136 dX10_tries_144) rfl rfl) <|
  xA0 (ok_iload_n (xdd xB_136 dX10_tries_145) rfl rfl) <|
  xA0 (ok_iconst (xdd xB_136 dX10_tries_146) rfl rfl (xrg rfl)) <|
  xA1 (ok_iadd (xdd xB_136 dX10_tries_147) rfl) <|
  xA0 (ok_iload_n (xdd xB_136 dX10_tries_148) rfl rfl) <|
  xAK rfl (xC1 (ok_callV (xdd xB_136 dX10_tries_149) rfl xq_8 rfl xp_136_2 q1223 q1225 qs38 q123 q1226) xC0) <|
  xA1 (ok_iinc (xdd xB_136 dX10_tries_152) rfl) <|
  xA0 (ok_goto (xdd xB_136 dX10_tries_155) rfl) <|
  xA1 (ok_iinc (xdd xB_136 dX10_tries_158) rfl) <|
  xAe
theorem xe_136_5 {s0 : State} {A0 : Array Value} {D : va_G} {ta : Nat → ClassId} {l : Launch} : XAll s0 A0 D ta l 136 xk_136_5 :=
  xA0 (ok_goto (xdd xB_136 dX10_tries_161) rfl) <|
  xAR (ok_vreturn (xdd xB_136 dX10_tries_164) rfl) <|
  xAe
theorem xe_136 {s0 : State} {A0 : Array Value} {D : va_G} {ta : Nat → ClassId} {l : Launch} : XAllC s0 A0 D ta l 136 xk_136 := ⟨xe_136_0, xe_136_1, xe_136_2, xe_136_3, xe_136_4, xe_136_5, trivial⟩
theorem xe_137_0 {s0 : State} {A0 : Array Value} {D : va_G} {ta : Nat → ClassId} {l : Launch} : XAll s0 A0 D ta l 137 xk_137_0 :=
  xA0 (ok_aload_n (xdd xB_137 dX10_at_0) rfl rfl) <|
  xA1 (ok_getA (xdd xB_137 dX10_at_1) rfl (lk_f q381) rfl) <|
  xA0 (ok_iload_n (xdd xB_137 dX10_at_4) rfl rfl) <|
  xA1 (ok_iaload (xdd xB_137 dX10_at_5) rfl) <|
  xAR (ok_ireturn (xdd xB_137 dX10_at_6) rfl) <|
  xAe
theorem xe_137 {s0 : State} {A0 : Array Value} {D : va_G} {ta : Nat → ClassId} {l : Launch} : XAllC s0 A0 D ta l 137 xk_137 := ⟨xe_137_0, trivial⟩
theorem xe_138_0 {s0 : State} {A0 : Array Value} {D : va_G} {ta : Nat → ClassId} {l : Launch} : XAll s0 A0 D ta l 138 xk_138_0 :=
  xA0 (ok_aload_n (xdd xB_138 dX11_init_0) rfl rfl) <|
  xA1 (ok_obj (xdd xB_138 dX11_init_1) rfl q1402 q147 q148) <|
  xA0 (ok_aload_n (xdd xB_138 dX11_init_4) rfl rfl) <|
  xA0 (ok_iconst (xdd xB_138 dX11_init_5) rfl rfl (xrg rfl)) <|
  xA1 (ok_putI (xdd xB_138 dX11_init_6) rfl (lk_f q1405) rfl xfd_68 (Or.inl rfl)) <|
  xA0 (ok_aload_n (xdd xB_138 dX11_init_9) rfl rfl) <|
  xA0 (ok_sipush (xdd xB_138 dX11_init_10) rfl rfl (xrg rfl)) <|
  xA1 (ok_new_byte (xdd xB_138 dX11_init_13) rfl) <|
  xA1 (ok_putA (xdd xB_138 dX11_init_15) rfl (lk_f q1408) rfl xfd_71 (Or.inr ⟨_, rfl⟩) (Or.inr ⟨rfl, rfl, rfl⟩)) <|
  xA0 (ok_aload_n (xdd xB_138 dX11_init_18) rfl rfl) <|
  xA0 (ok_bipush (xdd xB_138 dX11_init_19) rfl rfl (xrg rfl)) <|
  xA1 (ok_new_int (xdd xB_138 dX11_init_21) rfl) <|
  xA1 (ok_putA (xdd xB_138 dX11_init_23) rfl (lk_f q1418) rfl xfd_81 (Or.inr ⟨_, rfl⟩) (Or.inr ⟨rfl, rfl, rfl⟩)) <|
  xA0 (ok_aload_n (xdd xB_138 dX11_init_26) rfl rfl) <|
  xA0 (ok_sipush (xdd xB_138 dX11_init_27) rfl rfl (xrg rfl)) <|
  xA1 (ok_new_int (xdd xB_138 dX11_init_30) rfl) <|
  xAe
theorem xe_138_1 {s0 : State} {A0 : Array Value} {D : va_G} {ta : Nat → ClassId} {l : Launch} : XAll s0 A0 D ta l 138 xk_138_1 :=
  xA1 (ok_putA (xdd xB_138 dX11_init_32) rfl (lk_f q1419) rfl xfd_82 (Or.inr ⟨_, rfl⟩) (Or.inr ⟨rfl, rfl, rfl⟩)) <|
  xA0 (ok_aload_n (xdd xB_138 dX11_init_35) rfl rfl) <|
  xA0 (ok_bipush (xdd xB_138 dX11_init_36) rfl rfl (xrg rfl)) <|
  xA1 (ok_new_int (xdd xB_138 dX11_init_38) rfl) <|
  xA1 (ok_putA (xdd xB_138 dX11_init_40) rfl (lk_f q1420) rfl xfd_83 (Or.inr ⟨_, rfl⟩) (Or.inr ⟨rfl, rfl, rfl⟩)) <|
  xA0 (ok_aload_n (xdd xB_138 dX11_init_43) rfl rfl) <|
  xA0 (ok_bipush (xdd xB_138 dX11_init_44) rfl rfl (xrg rfl)) <|
  xA1 (ok_new_int (xdd xB_138 dX11_init_46) rfl) <|
  xA1 (ok_putA (xdd xB_138 dX11_init_48) rfl (lk_f q1423) rfl xfd_86 (Or.inr ⟨_, rfl⟩) (Or.inr ⟨rfl, rfl, rfl⟩)) <|
  xA0 (ok_aload_n (xdd xB_138 dX11_init_51) rfl rfl) <|
  xA0 (ok_bipush (xdd xB_138 dX11_init_52) rfl rfl (xrg rfl)) <|
  xA1 (ok_new_int (xdd xB_138 dX11_init_54) rfl) <|
  xA1 (ok_putA (xdd xB_138 dX11_init_56) rfl (lk_f q1424) rfl xfd_87 (Or.inr ⟨_, rfl⟩) (Or.inr ⟨rfl, rfl, rfl⟩)) <|
  xA0 (ok_aload_n (xdd xB_138 dX11_init_59) rfl rfl) <|
  xA0 (ok_bipush (xdd xB_138 dX11_init_60) rfl rfl (xrg rfl)) <|
  xA1 (ok_new_int (xdd xB_138 dX11_init_62) rfl) <|
  xAe
theorem xe_138_2 {s0 : State} {A0 : Array Value} {D : va_G} {ta : Nat → ClassId} {l : Launch} : XAll s0 A0 D ta l 138 xk_138_2 :=
  xA1 (ok_putA (xdd xB_138 dX11_init_64) rfl (lk_f q1425) rfl xfd_88 (Or.inr ⟨_, rfl⟩) (Or.inr ⟨rfl, rfl, rfl⟩)) <|
  xA0 (ok_aload_n (xdd xB_138 dX11_init_67) rfl rfl) <|
  xA0 (ok_bipush (xdd xB_138 dX11_init_68) rfl rfl (xrg rfl)) <|
  xA1 (ok_new_int (xdd xB_138 dX11_init_70) rfl) <|
  xA1 (ok_putA (xdd xB_138 dX11_init_72) rfl (lk_f q1428) rfl xfd_91 (Or.inr ⟨_, rfl⟩) (Or.inr ⟨rfl, rfl, rfl⟩)) <|
  xA0 (ok_aload_n (xdd xB_138 dX11_init_75) rfl rfl) <|
  xA0 (ok_bipush (xdd xB_138 dX11_init_76) rfl rfl (xrg rfl)) <|
  xA1 (ok_new_int (xdd xB_138 dX11_init_78) rfl) <|
  xA1 (ok_putA (xdd xB_138 dX11_init_80) rfl (lk_f q1429) rfl xfd_92 (Or.inr ⟨_, rfl⟩) (Or.inr ⟨rfl, rfl, rfl⟩)) <|
  xA0 (ok_aload_n (xdd xB_138 dX11_init_83) rfl rfl) <|
  xA0 (ok_bipush (xdd xB_138 dX11_init_84) rfl rfl (xrg rfl)) <|
  xA1 (ok_new_int (xdd xB_138 dX11_init_86) rfl) <|
  xA1 (ok_putA (xdd xB_138 dX11_init_88) rfl (lk_f q1430) rfl xfd_93 (Or.inr ⟨_, rfl⟩) (Or.inr ⟨rfl, rfl, rfl⟩)) <|
  xA0 (ok_aload_n (xdd xB_138 dX11_init_91) rfl rfl) <|
  xA0 (ok_bipush (xdd xB_138 dX11_init_92) rfl rfl (xrg rfl)) <|
  xA1 (ok_new_int (xdd xB_138 dX11_init_94) rfl) <|
  xAe
theorem xe_138_3 {s0 : State} {A0 : Array Value} {D : va_G} {ta : Nat → ClassId} {l : Launch} : XAll s0 A0 D ta l 138 xk_138_3 :=
  xA1 (ok_putA (xdd xB_138 dX11_init_96) rfl (lk_f q1431) rfl xfd_94 (Or.inr ⟨_, rfl⟩) (Or.inr ⟨rfl, rfl, rfl⟩)) <|
  xA0 (ok_aload_n (xdd xB_138 dX11_init_99) rfl rfl) <|
  xA0 (ok_bipush (xdd xB_138 dX11_init_100) rfl rfl (xrg rfl)) <|
  xA1 (ok_new_int (xdd xB_138 dX11_init_102) rfl) <|
  xA1 (ok_putA (xdd xB_138 dX11_init_104) rfl (lk_f q1432) rfl xfd_95 (Or.inr ⟨_, rfl⟩) (Or.inr ⟨rfl, rfl, rfl⟩)) <|
  xA0 (ok_aload_n (xdd xB_138 dX11_init_107) rfl rfl) <|
  xA0 (ok_iconst (xdd xB_138 dX11_init_108) rfl rfl (xrg rfl)) <|
  xA1 (ok_new_int (xdd xB_138 dX11_init_109) rfl) <|
  xA1 (ok_putA (xdd xB_138 dX11_init_111) rfl (lk_f q1436) rfl xfd_99 (Or.inr ⟨_, rfl⟩) (Or.inr ⟨rfl, rfl, rfl⟩)) <|
  xA0 (ok_aload_n (xdd xB_138 dX11_init_114) rfl rfl) <|
  xA0 (ok_iconst (xdd xB_138 dX11_init_115) rfl rfl (xrg rfl)) <|
  xA1 (ok_new_int (xdd xB_138 dX11_init_116) rfl) <|
  xA1 (ok_putA (xdd xB_138 dX11_init_118) rfl (lk_f q1437) rfl xfd_100 (Or.inr ⟨_, rfl⟩) (Or.inr ⟨rfl, rfl, rfl⟩)) <|
  xA0 (ok_aload_n (xdd xB_138 dX11_init_121) rfl rfl) <|
  xA0 (ok_bipush (xdd xB_138 dX11_init_122) rfl rfl (xrg rfl)) <|
  xA1 (ok_new_int (xdd xB_138 dX11_init_124) rfl) <|
  xA1 (ok_putA (xdd xB_138 dX11_init_126) rfl (lk_f q1440) rfl xfd_103 (Or.inr ⟨_, rfl⟩) (Or.inr ⟨rfl, rfl, rfl⟩)) <|
  xAe
theorem xe_138_4 {s0 : State} {A0 : Array Value} {D : va_G} {ta : Nat → ClassId} {l : Launch} : XAll s0 A0 D ta l 138 xk_138_4 :=
  xAR (ok_vreturn (xdd xB_138 dX11_init_129) rfl) <|
  xAe
theorem xe_138 {s0 : State} {A0 : Array Value} {D : va_G} {ta : Nat → ClassId} {l : Launch} : XAllC s0 A0 D ta l 138 xk_138 := ⟨xe_138_0, xe_138_1, xe_138_2, xe_138_3, xe_138_4, trivial⟩
theorem xe_139_0 {s0 : State} {A0 : Array Value} {D : va_G} {ta : Nat → ClassId} {l : Launch} : XAll s0 A0 D ta l 139 xk_139_0 :=
  xA0 (ok_aload_n (xdd xB_139 dX11_thrown_0) rfl rfl) <|
  xA1 (ok_getI (xdd xB_139 dX11_thrown_1) rfl (lk_f q1403) (by decide)) <|
  xAR (ok_ireturn (xdd xB_139 dX11_thrown_4) rfl) <|
  xAe
theorem xe_139 {s0 : State} {A0 : Array Value} {D : va_G} {ta : Nat → ClassId} {l : Launch} : XAllC s0 A0 D ta l 139 xk_139 := ⟨xe_139_0, trivial⟩
theorem xe_140_0 {s0 : State} {A0 : Array Value} {D : va_G} {ta : Nat → ClassId} {l : Launch} : XAll s0 A0 D ta l 140 xk_140_0 :=
  xA0 (ok_aload_n (xdd xB_140 dX11_feed_0) rfl rfl) <|
  xA0 (ok_iconst (xdd xB_140 dX11_feed_1) rfl rfl (xrg rfl)) <|
  xA1 (ok_putI (xdd xB_140 dX11_feed_2) rfl (lk_f q1403) rfl xfd_66 (Or.inl rfl)) <|
  xA0 (ok_aload_n (xdd xB_140 dX11_feed_5) rfl rfl) <|
  xA1 (ok_getI (xdd xB_140 dX11_feed_6) rfl (lk_f q1409) (by decide)) <|
  xA0 (ok_bipush (xdd xB_140 dX11_feed_9) rfl rfl (xrg rfl)) <|
  xA1 (ok_iadd (xdd xB_140 dX11_feed_11) rfl) <|
  xA0 (ok_sipush (xdd xB_140 dX11_feed_12) rfl rfl (xrg rfl)) <|
  xAB (ok_icmp_le (xdd xB_140 dX11_feed_15) rfl rfl) <|
  xA0 (ok_iconst (xdd xB_140 dX11_feed_18) rfl rfl (xrg rfl)) <|
  xAR (ok_ireturn (xdd xB_140 dX11_feed_19) rfl) <|
  xA0 (ok_iconst (xdd xB_140 dX11_feed_20) rfl rfl (xrg rfl)) <|
  xA0 (ok_istore (xdd xB_140 dX11_feed_21) rfl) <|
  xA0 (ok_iload (xdd xB_140 dX11_feed_23) rfl) <|
  xA0 (ok_bipush (xdd xB_140 dX11_feed_25) rfl rfl (xrg rfl)) <|
  xAB (ok_icmp_ge (xdd xB_140 dX11_feed_27) rfl rfl) <|
  xA0 (ok_iload (xdd xB_140 dX11_feed_30) rfl) <|
  xAe
theorem xe_140_1 {s0 : State} {A0 : Array Value} {D : va_G} {ta : Nat → ClassId} {l : Launch} : XAll s0 A0 D ta l 140 xk_140_1 :=
  xA0 (ok_iconst (xdd xB_140 dX11_feed_32) rfl rfl (xrg rfl)) <|
  xAB (ok_icmp_ge (xdd xB_140 dX11_feed_33) rfl rfl) <|
  xA0 (ok_iload_n (xdd xB_140 dX11_feed_36) rfl rfl) <|
  xA0 (ok_goto (xdd xB_140 dX11_feed_37) rfl) <|
  xA0 (ok_iload (xdd xB_140 dX11_feed_40) rfl) <|
  xA0 (ok_bipush (xdd xB_140 dX11_feed_42) rfl rfl (xrg rfl)) <|
  xAB (ok_icmp_ge (xdd xB_140 dX11_feed_44) rfl rfl) <|
  xA0 (ok_iload_n (xdd xB_140 dX11_feed_47) rfl rfl) <|
  xA0 (ok_goto (xdd xB_140 dX11_feed_48) rfl) <|
  xA0 (ok_iload (xdd xB_140 dX11_feed_51) rfl) <|
  xA0 (ok_bipush (xdd xB_140 dX11_feed_53) rfl rfl (xrg rfl)) <|
  xAB (ok_icmp_ge (xdd xB_140 dX11_feed_55) rfl rfl) <|
  xA0 (ok_iload_n (xdd xB_140 dX11_feed_58) rfl rfl) <|
  xA0 (ok_goto (xdd xB_140 dX11_feed_59) rfl) <|
  xA0 (ok_iload (xdd xB_140 dX11_feed_62) rfl) <|
  xAe
theorem xe_140_2 {s0 : State} {A0 : Array Value} {D : va_G} {ta : Nat → ClassId} {l : Launch} : XAll s0 A0 D ta l 140 xk_140_2 :=
  xA0 (ok_bipush (xdd xB_140 dX11_feed_64) rfl rfl (xrg rfl)) <|
  xAB (ok_icmp_ge (xdd xB_140 dX11_feed_66) rfl rfl) <|
  xA0 (ok_iload (xdd xB_140 dX11_feed_69) rfl) <|
  xA0 (ok_goto (xdd xB_140 dX11_feed_71) rfl) <|
  xA0 (ok_iload (xdd xB_140 dX11_feed_74) rfl) <|
  xA0 (ok_istore (xdd xB_140 dX11_feed_76) rfl) <|
  xA0 (ok_aload_n (xdd xB_140 dX11_feed_78) rfl rfl) <|
  xA1 (ok_getA (xdd xB_140 dX11_feed_79) rfl (lk_f q1408) rfl) <|
  xA0 (ok_aload_n (xdd xB_140 dX11_feed_82) rfl rfl) <|
  xA1 (ok_getI (xdd xB_140 dX11_feed_83) rfl (lk_f q1409) (by decide)) <|
  xA0 (ok_iload (xdd xB_140 dX11_feed_86) rfl) <|
  xA0 (ok_bipush (xdd xB_140 dX11_feed_88) rfl rfl (xrg rfl)) <|
  xA0 (ok_bipush (xdd xB_140 dX11_feed_90) rfl rfl (xrg rfl)) <|
  xA0 (ok_iload (xdd xB_140 dX11_feed_92) rfl) <|
  xA0 (ok_iconst (xdd xB_140 dX11_feed_94) rfl rfl (xrg rfl)) <|
  xA1 (ok_irem (xdd xB_140 dX11_feed_95) rfl) <|
  xAe
theorem xe_140_3 {s0 : State} {A0 : Array Value} {D : va_G} {ta : Nat → ClassId} {l : Launch} : XAll s0 A0 D ta l 140 xk_140_3 :=
  xA1 (ok_imul (xdd xB_140 dX11_feed_96) rfl) <|
  xA1 (ok_isub (xdd xB_140 dX11_feed_97) rfl) <|
  xA1 (ok_ishr (xdd xB_140 dX11_feed_98) rfl) <|
  xA0 (ok_i2b (xdd xB_140 dX11_feed_99) rfl) <|
  xA1 (ok_bastore (xdd xB_140 dX11_feed_100) rfl) <|
  xA0 (ok_aload_n (xdd xB_140 dX11_feed_101) rfl rfl) <|
  xA0 (ok_dup (xdd xB_140 dX11_feed_102) rfl) <|
  xA1 (ok_getI (xdd xB_140 dX11_feed_103) rfl (lk_f q1409) (by decide)) <|
  xA0 (ok_iconst (xdd xB_140 dX11_feed_106) rfl rfl (xrg rfl)) <|
  xA1 (ok_iadd (xdd xB_140 dX11_feed_107) rfl) <|
  xA1 (ok_putI (xdd xB_140 dX11_feed_108) rfl (lk_f q1409) rfl xfd_72 (Or.inl rfl)) <|
  xA1 (ok_iinc (xdd xB_140 dX11_feed_111) rfl) <|
  xA0 (ok_goto (xdd xB_140 dX11_feed_114) rfl) <|
  xA0 (ok_aload_n (xdd xB_140 dX11_feed_117) rfl rfl) <|
  xA1 (ok_getI (xdd xB_140 dX11_feed_118) rfl (lk_f q1409) (by decide)) <|
  xAR (ok_ireturn (xdd xB_140 dX11_feed_121) rfl) <|
  xAe
theorem xe_140 {s0 : State} {A0 : Array Value} {D : va_G} {ta : Nat → ClassId} {l : Launch} : XAllC s0 A0 D ta l 140 xk_140 := ⟨xe_140_0, xe_140_1, xe_140_2, xe_140_3, trivial⟩
theorem xe_141_0 {s0 : State} {A0 : Array Value} {D : va_G} {ta : Nat → ClassId} {l : Launch} : XAll s0 A0 D ta l 141 xk_141_0 :=
  xA0 (ok_aload_n (xdd xB_141 dX11_town_0) rfl rfl) <|
  xA0 (ok_iconst (xdd xB_141 dX11_town_1) rfl rfl (xrg rfl)) <|
  xA1 (ok_putI (xdd xB_141 dX11_town_2) rfl (lk_f q1403) rfl xfd_66 (Or.inl rfl)) <|
  xA0 (ok_iload_n (xdd xB_141 dX11_town_5) rfl rfl) <|
  xAB (ok_if_lt (xdd xB_141 dX11_town_6) rfl rfl) <|
  xA0 (ok_iload_n (xdd xB_141 dX11_town_9) rfl rfl) <|
  xA0 (ok_aload_n (xdd xB_141 dX11_town_10) rfl rfl) <|
  xA1 (ok_getI (xdd xB_141 dX11_town_11) rfl (lk_f q1409) (by decide)) <|
  xAB (ok_icmp_le (xdd xB_141 dX11_town_14) rfl rfl) <|
  xA0 (ok_aload_n (xdd xB_141 dX11_town_17) rfl rfl) <|
  xA0 (ok_iconst (xdd xB_141 dX11_town_18) rfl rfl (xrg rfl)) <|
  xAK rfl (xC1 (ok_callV (xdd xB_141 dX11_town_19) rfl xq_9 rfl xp_142_1 q1533 q1535 qs49 q124 q1536) xC0) <|
  xAR (ok_ireturn (xdd xB_141 dX11_town_22) rfl) <|
  xA0 (ok_aload_n (xdd xB_141 dX11_town_23) rfl rfl) <|
  xA0 (ok_iload_n (xdd xB_141 dX11_town_24) rfl rfl) <|
  xA1 (ok_putI (xdd xB_141 dX11_town_25) rfl (lk_f q1410) rfl xfd_73 (Or.inl rfl)) <|
  xA0 (ok_aload_n (xdd xB_141 dX11_town_28) rfl rfl) <|
  xA0 (ok_iconst (xdd xB_141 dX11_town_29) rfl rfl (xrg rfl)) <|
  xA1 (ok_putI (xdd xB_141 dX11_town_30) rfl (lk_f q1409) rfl xfd_72 (Or.inl rfl)) <|
  xAe
theorem xe_141_1 {s0 : State} {A0 : Array Value} {D : va_G} {ta : Nat → ClassId} {l : Launch} : XAll s0 A0 D ta l 141 xk_141_1 :=
  xA0 (ok_aload_n (xdd xB_141 dX11_town_33) rfl rfl) <|
  xA0 (ok_iconst (xdd xB_141 dX11_town_34) rfl rfl (xrg rfl)) <|
  xA1 (ok_putI (xdd xB_141 dX11_town_35) rfl (lk_f q1411) rfl xfd_74 (Or.inl rfl)) <|
  xA0 (ok_aload_n (xdd xB_141 dX11_town_38) rfl rfl) <|
  xA0 (ok_iconst (xdd xB_141 dX11_town_39) rfl rfl (xrg rfl)) <|
  xA1 (ok_putI (xdd xB_141 dX11_town_40) rfl (lk_f q1415) rfl xfd_78 (Or.inl rfl)) <|
  xA0 (ok_aload_n (xdd xB_141 dX11_town_43) rfl rfl) <|
  xA0 (ok_newo (xdd xB_141 dX11_town_44) rfl xq_15 q1537 q1538 q137) <|
  xA0 (ok_dup (xdd xB_141 dX11_town_47) rfl) <|
  xAK rfl (xC1 (ok_callIN (xdd xB_141 dX11_town_48) rfl xq_15 rfl rfl xp_291_0 q1539 q1540 q137 q1541) xC0) <|
  xA1 (ok_putA (xdd xB_141 dX11_town_51) rfl (lk_f q1407) rfl xfd_70 (Or.inl ⟨_, rfl⟩) (Or.inl rfl)) <|
  xA0 (ok_aload_n (xdd xB_141 dX11_town_54) rfl rfl) <|
  xA0 (ok_iconst (xdd xB_141 dX11_town_55) rfl rfl (xrg rfl)) <|
  xA1 (ok_putI (xdd xB_141 dX11_town_56) rfl (lk_f q1412) rfl xfd_75 (Or.inl rfl)) <|
  xA0 (ok_aload_n (xdd xB_141 dX11_town_59) rfl rfl) <|
  xAK rfl (xC1 (ok_callV (xdd xB_141 dX11_town_60) rfl xq_9 rfl xp_143_0 q1647 q1649 qs50 q124 q1650) xC0) <|
  xA0 (ok_aload_n (xdd xB_141 dX11_town_63) rfl rfl) <|
  xAe
theorem xe_141_2 {s0 : State} {A0 : Array Value} {D : va_G} {ta : Nat → ClassId} {l : Launch} : XAll s0 A0 D ta l 141 xk_141_2 :=
  xAK rfl (xC1 (ok_callV (xdd xB_141 dX11_town_64) rfl xq_9 rfl xp_147_0 q1662 q1664 qs52 q124 q1665) xC0) <|
  xA0 (ok_aload_n (xdd xB_141 dX11_town_67) rfl rfl) <|
  xA1 (ok_getI (xdd xB_141 dX11_town_68) rfl (lk_f q1415) (by decide)) <|
  xAB (ok_if_le (xdd xB_141 dX11_town_71) rfl rfl) <|
  xA0 (ok_aload_n (xdd xB_141 dX11_town_74) rfl rfl) <|
  xA0 (ok_iconst (xdd xB_141 dX11_town_75) rfl rfl (xrg rfl)) <|
  xA1 (ok_putI (xdd xB_141 dX11_town_76) rfl (lk_f q1404) rfl xfd_67 (Or.inl rfl)) <|
  xA0 (ok_aload_n (xdd xB_141 dX11_town_79) rfl rfl) <|
  xA0 (ok_aload_n (xdd xB_141 dX11_town_80) rfl rfl) <|
  xA1 (ok_getI (xdd xB_141 dX11_town_81) rfl (lk_f q1416) (by decide)) <|
  xA1 (ok_putI (xdd xB_141 dX11_town_84) rfl (lk_f q1405) rfl xfd_68 (Or.inl rfl)) <|
  xA0 (ok_iconst (xdd xB_141 dX11_town_87) rfl rfl (xrg rfl)) <|
  xAR (ok_ireturn (xdd xB_141 dX11_town_88) rfl) <|
  xA0 (ok_aload_n (xdd xB_141 dX11_town_89) rfl rfl) <|
  xA0 (ok_aload_n (xdd xB_141 dX11_town_90) rfl rfl) <|
  xA1 (ok_getA (xdd xB_141 dX11_town_91) rfl (lk_f q1407) rfl) <|
  xA1 (ok_putA (xdd xB_141 dX11_town_94) rfl (lk_f q1406) rfl xfd_69 (Or.inl ⟨_, rfl⟩) (Or.inl rfl)) <|
  xAe
theorem xe_141_3 {s0 : State} {A0 : Array Value} {D : va_G} {ta : Nat → ClassId} {l : Launch} : XAll s0 A0 D ta l 141 xk_141_3 :=
  xA0 (ok_iconst (xdd xB_141 dX11_town_97) rfl rfl (xrg rfl)) <|
  xA0 (ok_istore_n (xdd xB_141 dX11_town_98) rfl rfl) <|
  xA0 (ok_iload_n (xdd xB_141 dX11_town_99) rfl rfl) <|
  xA0 (ok_bipush (xdd xB_141 dX11_town_100) rfl rfl (xrg rfl)) <|
  xAB (ok_icmp_ge (xdd xB_141 dX11_town_102) rfl rfl) <|
  xA0 (ok_aload_n (xdd xB_141 dX11_town_105) rfl rfl) <|
  xA1 (ok_getA (xdd xB_141 dX11_town_106) rfl (lk_f q1418) rfl) <|
  xA0 (ok_iload_n (xdd xB_141 dX11_town_109) rfl rfl) <|
  xA0 (ok_iconst (xdd xB_141 dX11_town_110) rfl rfl (xrg rfl)) <|
  xA1 (ok_iastore (xdd xB_141 dX11_town_111) rfl) <|
  xA1 (ok_iinc (xdd xB_141 dX11_town_112) rfl) <|
  xA0 (ok_goto (xdd xB_141 dX11_town_115) rfl) <|
  xA0 (ok_iconst (xdd xB_141 dX11_town_118) rfl rfl (xrg rfl)) <|
  xA0 (ok_istore_n (xdd xB_141 dX11_town_119) rfl rfl) <|
  xA0 (ok_iload_n (xdd xB_141 dX11_town_120) rfl rfl) <|
  xA0 (ok_bipush (xdd xB_141 dX11_town_121) rfl rfl (xrg rfl)) <|
  xAB (ok_icmp_ge (xdd xB_141 dX11_town_123) rfl rfl) <|
  xA0 (ok_aload_n (xdd xB_141 dX11_town_126) rfl rfl) <|
  xA1 (ok_getA (xdd xB_141 dX11_town_127) rfl (lk_f q1418) rfl) <|
  xAe
theorem xe_141_4 {s0 : State} {A0 : Array Value} {D : va_G} {ta : Nat → ClassId} {l : Launch} : XAll s0 A0 D ta l 141 xk_141_4 :=
  xA0 (ok_iconst (xdd xB_141 dX11_town_130) rfl rfl (xrg rfl)) <|
  xA0 (ok_iload_n (xdd xB_141 dX11_town_131) rfl rfl) <|
  xA1 (ok_iadd (xdd xB_141 dX11_town_132) rfl) <|
  xA0 (ok_iload_n (xdd xB_141 dX11_town_133) rfl rfl) <|
  xA0 (ok_aload_n (xdd xB_141 dX11_town_134) rfl rfl) <|
  xA1 (ok_getA (xdd xB_141 dX11_town_135) rfl (lk_f q1406) rfl) <|
  xA1 (ok_getI (xdd xB_141 dX11_town_138) rfl (lk_n q1546) (by decide)) <|
  xAB (ok_icmp_ge (xdd xB_141 dX11_town_141) rfl rfl) <|
  xA0 (ok_aload_n (xdd xB_141 dX11_town_144) rfl rfl) <|
  xA1 (ok_getA (xdd xB_141 dX11_town_145) rfl (lk_f q1406) rfl) <|
  xA1 (ok_getA (xdd xB_141 dX11_town_148) rfl (lk_n q1564) rfl) <|
  xA0 (ok_iload_n (xdd xB_141 dX11_town_151) rfl rfl) <|
  xA1 (ok_iaload (xdd xB_141 dX11_town_152) rfl) <|
  xA0 (ok_goto (xdd xB_141 dX11_town_153) rfl) <|
  xA0 (ok_bipush (xdd xB_141 dX11_town_156) rfl rfl (xrg rfl)) <|
  xA1 (ok_iastore (xdd xB_141 dX11_town_158) rfl) <|
  xA1 (ok_iinc (xdd xB_141 dX11_town_159) rfl) <|
  xAe
theorem xe_141_5 {s0 : State} {A0 : Array Value} {D : va_G} {ta : Nat → ClassId} {l : Launch} : XAll s0 A0 D ta l 141 xk_141_5 :=
  xA0 (ok_goto (xdd xB_141 dX11_town_162) rfl) <|
  xA0 (ok_iconst (xdd xB_141 dX11_town_165) rfl rfl (xrg rfl)) <|
  xA0 (ok_istore_n (xdd xB_141 dX11_town_166) rfl rfl) <|
  xA0 (ok_iload_n (xdd xB_141 dX11_town_167) rfl rfl) <|
  xA0 (ok_aload_n (xdd xB_141 dX11_town_168) rfl rfl) <|
  xA1 (ok_getA (xdd xB_141 dX11_town_169) rfl (lk_f q1406) rfl) <|
  xA1 (ok_getI (xdd xB_141 dX11_town_172) rfl (lk_n q1550) (by decide)) <|
  xAB (ok_icmp_ge (xdd xB_141 dX11_town_175) rfl rfl) <|
  xA0 (ok_aload_n (xdd xB_141 dX11_town_178) rfl rfl) <|
  xA1 (ok_getA (xdd xB_141 dX11_town_179) rfl (lk_f q1418) rfl) <|
  xA0 (ok_bipush (xdd xB_141 dX11_town_182) rfl rfl (xrg rfl)) <|
  xA0 (ok_iload_n (xdd xB_141 dX11_town_184) rfl rfl) <|
  xA1 (ok_iadd (xdd xB_141 dX11_town_185) rfl) <|
  xA0 (ok_aload_n (xdd xB_141 dX11_town_186) rfl rfl) <|
  xA1 (ok_getA (xdd xB_141 dX11_town_187) rfl (lk_f q1406) rfl) <|
  xA1 (ok_getA (xdd xB_141 dX11_town_190) rfl (lk_n q1576) rfl) <|
  xAe
theorem xe_141_6 {s0 : State} {A0 : Array Value} {D : va_G} {ta : Nat → ClassId} {l : Launch} : XAll s0 A0 D ta l 141 xk_141_6 :=
  xA0 (ok_iload_n (xdd xB_141 dX11_town_193) rfl rfl) <|
  xA1 (ok_iaload (xdd xB_141 dX11_town_194) rfl) <|
  xA1 (ok_iastore (xdd xB_141 dX11_town_195) rfl) <|
  xA1 (ok_iinc (xdd xB_141 dX11_town_196) rfl) <|
  xA0 (ok_goto (xdd xB_141 dX11_town_199) rfl) <|
  xA0 (ok_aload_n (xdd xB_141 dX11_town_202) rfl rfl) <|
  xAK rfl (xC1 (ok_callV (xdd xB_141 dX11_town_203) rfl xq_9 rfl xp_173_0 q1824 q1826 qs76 q124 q1827) xC0) <|
  xA0 (ok_aload_n (xdd xB_141 dX11_town_206) rfl rfl) <|
  xA0 (ok_iconst (xdd xB_141 dX11_town_207) rfl rfl (xrg rfl)) <|
  xA1 (ok_putI (xdd xB_141 dX11_town_208) rfl (lk_f q1421) rfl xfd_84 (Or.inl rfl)) <|
  xA0 (ok_aload_n (xdd xB_141 dX11_town_211) rfl rfl) <|
  xA0 (ok_iconst (xdd xB_141 dX11_town_212) rfl rfl (xrg rfl)) <|
  xA1 (ok_putI (xdd xB_141 dX11_town_213) rfl (lk_f q1422) rfl xfd_85 (Or.inl rfl)) <|
  xA0 (ok_aload_n (xdd xB_141 dX11_town_216) rfl rfl) <|
  xA0 (ok_aload_n (xdd xB_141 dX11_town_217) rfl rfl) <|
  xA1 (ok_getA (xdd xB_141 dX11_town_218) rfl (lk_f q1406) rfl) <|
  xA1 (ok_getI (xdd xB_141 dX11_town_221) rfl (lk_n q1546) (by decide)) <|
  xAe
theorem xe_141_7 {s0 : State} {A0 : Array Value} {D : va_G} {ta : Nat → ClassId} {l : Launch} : XAll s0 A0 D ta l 141 xk_141_7 :=
  xAK rfl (xC1 (ok_callV (xdd xB_141 dX11_town_224) rfl xq_9 rfl xp_174_1 q1829 q1831 qs77 q124 q1832) xC0) <|
  xAR (ok_ireturn (xdd xB_141 dX11_town_227) rfl) <|
  xAe
theorem xe_141 {s0 : State} {A0 : Array Value} {D : va_G} {ta : Nat → ClassId} {l : Launch} : XAllC s0 A0 D ta l 141 xk_141 := ⟨xe_141_0, xe_141_1, xe_141_2, xe_141_3, xe_141_4, xe_141_5, xe_141_6, xe_141_7, trivial⟩
theorem xe_142_0 {s0 : State} {A0 : Array Value} {D : va_G} {ta : Nat → ClassId} {l : Launch} : XAll s0 A0 D ta l 142 xk_142_0 :=
  xA0 (ok_aload_n (xdd xB_142 dX11_refused_0) rfl rfl) <|
  xA0 (ok_iload_n (xdd xB_142 dX11_refused_1) rfl rfl) <|
  xA1 (ok_putI (xdd xB_142 dX11_refused_2) rfl (lk_f q1404) rfl xfd_67 (Or.inl rfl)) <|
  xA0 (ok_aload_n (xdd xB_142 dX11_refused_5) rfl rfl) <|
  xA0 (ok_iconst (xdd xB_142 dX11_refused_6) rfl rfl (xrg rfl)) <|
  xA1 (ok_putI (xdd xB_142 dX11_refused_7) rfl (lk_f q1405) rfl xfd_68 (Or.inl rfl)) <|
  xA0 (ok_iconst (xdd xB_142 dX11_refused_10) rfl rfl (xrg rfl)) <|
  xAR (ok_ireturn (xdd xB_142 dX11_refused_11) rfl) <|
  xAe
theorem xe_142 {s0 : State} {A0 : Array Value} {D : va_G} {ta : Nat → ClassId} {l : Launch} : XAllC s0 A0 D ta l 142 xk_142 := ⟨xe_142_0, trivial⟩
theorem xe_143_0 {s0 : State} {A0 : Array Value} {D : va_G} {ta : Nat → ClassId} {l : Launch} : XAll s0 A0 D ta l 143 xk_143_0 :=
  xA0 (ok_aload_n (xdd xB_143 dX11_goesOn_0) rfl rfl) <|
  xA1 (ok_getI (xdd xB_143 dX11_goesOn_1) rfl (lk_f q1412) (by decide)) <|
  xA0 (ok_iconst (xdd xB_143 dX11_goesOn_4) rfl rfl (xrg rfl)) <|
  xAB (ok_icmp_ne (xdd xB_143 dX11_goesOn_5) rfl rfl) <|
  xAR (ok_vreturn (xdd xB_143 dX11_goesOn_8) rfl) <|
  xA0 (ok_aload_n (xdd xB_143 dX11_goesOn_9) rfl rfl) <|
  xA0 (ok_aload_n (xdd xB_143 dX11_goesOn_10) rfl rfl) <|
  xA1 (ok_getI (xdd xB_143 dX11_goesOn_11) rfl (lk_f q1411) (by decide)) <|
  xAK rfl (xC1 (ok_callV (xdd xB_143 dX11_goesOn_14) rfl xq_9 rfl xp_144_1 q1651 q1653 qs51 q124 q1654) xC0) <|
  xA0 (ok_bipush (xdd xB_143 dX11_goesOn_17) rfl rfl (xrg rfl)) <|
  xAB (ok_icmp_ne (xdd xB_143 dX11_goesOn_19) rfl rfl) <|
  xA0 (ok_aload_n (xdd xB_143 dX11_goesOn_22) rfl rfl) <|
  xA0 (ok_dup (xdd xB_143 dX11_goesOn_23) rfl) <|
  xA1 (ok_getI (xdd xB_143 dX11_goesOn_24) rfl (lk_f q1411) (by decide)) <|
  xA0 (ok_iconst (xdd xB_143 dX11_goesOn_27) rfl rfl (xrg rfl)) <|
  xA1 (ok_iadd (xdd xB_143 dX11_goesOn_28) rfl) <|
  xA1 (ok_putI (xdd xB_143 dX11_goesOn_29) rfl (lk_f q1411) rfl xfd_74 (Or.inl rfl)) <|
  xAe
theorem xe_143_1 {s0 : State} {A0 : Array Value} {D : va_G} {ta : Nat → ClassId} {l : Launch} : XAll s0 A0 D ta l 143 xk_143_1 :=
  xA0 (ok_goto (xdd xB_143 dX11_goesOn_32) rfl) <|
  xA0 (ok_aload_n (xdd xB_143 dX11_goesOn_35) rfl rfl) <|
  xA0 (ok_aload_n (xdd xB_143 dX11_goesOn_36) rfl rfl) <|
  xA1 (ok_getI (xdd xB_143 dX11_goesOn_37) rfl (lk_f q1411) (by decide)) <|
  xA1 (ok_putI (xdd xB_143 dX11_goesOn_40) rfl (lk_f q1413) rfl xfd_76 (Or.inl rfl)) <|
  xA0 (ok_aload_n (xdd xB_143 dX11_goesOn_43) rfl rfl) <|
  xA0 (ok_iconst (xdd xB_143 dX11_goesOn_44) rfl rfl (xrg rfl)) <|
  xA1 (ok_putI (xdd xB_143 dX11_goesOn_45) rfl (lk_f q1412) rfl xfd_75 (Or.inl rfl)) <|
  xA0 (ok_aload_n (xdd xB_143 dX11_goesOn_48) rfl rfl) <|
  xA0 (ok_aload_n (xdd xB_143 dX11_goesOn_49) rfl rfl) <|
  xA1 (ok_getI (xdd xB_143 dX11_goesOn_50) rfl (lk_f q1411) (by decide)) <|
  xAK rfl (xC1 (ok_callV (xdd xB_143 dX11_goesOn_53) rfl xq_9 rfl xp_144_1 q1651 q1653 qs51 q124 q1654) xC0) <|
  xA0 (ok_istore_n (xdd xB_143 dX11_goesOn_56) rfl rfl) <|
  xA0 (ok_iconst (xdd xB_143 dX11_goesOn_57) rfl rfl (xrg rfl)) <|
  xA0 (ok_istore_n (xdd xB_143 dX11_goesOn_58) rfl rfl) <|
  xA0 (ok_iload_n (xdd xB_143 dX11_goesOn_59) rfl rfl) <|
  xA0 (ok_iconst (xdd xB_143 dX11_goesOn_60) rfl rfl (xrg rfl)) <|
  xAB (ok_icmp_ne (xdd xB_143 dX11_goesOn_61) rfl rfl) <|
  xAe
theorem xe_143_2 {s0 : State} {A0 : Array Value} {D : va_G} {ta : Nat → ClassId} {l : Launch} : XAll s0 A0 D ta l 143 xk_143_2 :=
  xA0 (ok_aload_n (xdd xB_143 dX11_goesOn_64) rfl rfl) <|
  xA0 (ok_iconst (xdd xB_143 dX11_goesOn_65) rfl rfl (xrg rfl)) <|
  xA1 (ok_putI (xdd xB_143 dX11_goesOn_66) rfl (lk_f q1412) rfl xfd_75 (Or.inl rfl)) <|
  xA0 (ok_goto (xdd xB_143 dX11_goesOn_69) rfl) <|
  xA0 (ok_iload_n (xdd xB_143 dX11_goesOn_72) rfl rfl) <|
  xAK rfl (xC1 (ok_callS (xdd xB_143 dX11_goesOn_73) rfl xp_145_1 q1655 q1656 q124 q1657) xC0) <|
  xAB (ok_if_eq (xdd xB_143 dX11_goesOn_76) rfl rfl) <|
  xA0 (ok_aload_n (xdd xB_143 dX11_goesOn_79) rfl rfl) <|
  xA0 (ok_lconst (xdd xB_143 dX11_goesOn_80) rfl rfl (xrgL rfl)) <|
  xA1 (ok_putJ (xdd xB_143 dX11_goesOn_81) rfl (lk_f q1417) rfl xfd_80 (Or.inl rfl)) <|
  xA0 (ok_aload_n (xdd xB_143 dX11_goesOn_84) rfl rfl) <|
  xA0 (ok_aload_n (xdd xB_143 dX11_goesOn_85) rfl rfl) <|
  xA1 (ok_getI (xdd xB_143 dX11_goesOn_86) rfl (lk_f q1411) (by decide)) <|
  xAK rfl (xC1 (ok_callV (xdd xB_143 dX11_goesOn_89) rfl xq_9 rfl xp_144_1 q1651 q1653 qs51 q124 q1654) xC0) <|
  xAK rfl (xC1 (ok_callS (xdd xB_143 dX11_goesOn_92) rfl xp_145_1 q1655 q1656 q124 q1657) xC0) <|
  xAB (ok_if_eq (xdd xB_143 dX11_goesOn_95) rfl rfl) <|
  xAe
theorem xe_143_3 {s0 : State} {A0 : Array Value} {D : va_G} {ta : Nat → ClassId} {l : Launch} : XAll s0 A0 D ta l 143 xk_143_3 :=
  xA0 (ok_iload_n (xdd xB_143 dX11_goesOn_98) rfl rfl) <|
  xA0 (ok_bipush (xdd xB_143 dX11_goesOn_99) rfl rfl (xrg rfl)) <|
  xAB (ok_icmp_ge (xdd xB_143 dX11_goesOn_101) rfl rfl) <|
  xA0 (ok_aload_n (xdd xB_143 dX11_goesOn_104) rfl rfl) <|
  xA0 (ok_ldc2 (xdd xB_143 dX11_goesOn_105) rfl q1658 rfl (xrgL rfl)) <|
  xA0 (ok_aload_n (xdd xB_143 dX11_goesOn_108) rfl rfl) <|
  xA1 (ok_getJ (xdd xB_143 dX11_goesOn_109) rfl (lk_f q1417) rfl) <|
  xA1 (ok_lmul (xdd xB_143 dX11_goesOn_112) rfl) <|
  xA0 (ok_aload_n (xdd xB_143 dX11_goesOn_113) rfl rfl) <|
  xA0 (ok_aload_n (xdd xB_143 dX11_goesOn_114) rfl rfl) <|
  xA1 (ok_getI (xdd xB_143 dX11_goesOn_115) rfl (lk_f q1411) (by decide)) <|
  xAK rfl (xC1 (ok_callV (xdd xB_143 dX11_goesOn_118) rfl xq_9 rfl xp_144_1 q1651 q1653 qs51 q124 q1654) xC0) <|
  xA0 (ok_bipush (xdd xB_143 dX11_goesOn_121) rfl rfl (xrg rfl)) <|
  xA1 (ok_isub (xdd xB_143 dX11_goesOn_123) rfl) <|
  xA0 (ok_iconst (xdd xB_143 dX11_goesOn_124) rfl rfl (xrg rfl)) <|
  xA1 (ok_iadd (xdd xB_143 dX11_goesOn_125) rfl) <|
  xA0 (ok_i2l (xdd xB_143 dX11_goesOn_126) rfl) <|
  xA1 (ok_ladd (xdd xB_143 dX11_goesOn_127) rfl) <|
  xAe
theorem xe_143_4 {s0 : State} {A0 : Array Value} {D : va_G} {ta : Nat → ClassId} {l : Launch} : XAll s0 A0 D ta l 143 xk_143_4 :=
  xA1 (ok_putJ (xdd xB_143 dX11_goesOn_128) rfl (lk_f q1417) rfl xfd_80 (Or.inl rfl)) <|
  xA1 (ok_iinc (xdd xB_143 dX11_goesOn_131) rfl) <|
  xA0 (ok_aload_n (xdd xB_143 dX11_goesOn_134) rfl rfl) <|
  xA0 (ok_dup (xdd xB_143 dX11_goesOn_135) rfl) <|
  xA1 (ok_getI (xdd xB_143 dX11_goesOn_136) rfl (lk_f q1411) (by decide)) <|
  xA0 (ok_iconst (xdd xB_143 dX11_goesOn_139) rfl rfl (xrg rfl)) <|
  xA1 (ok_iadd (xdd xB_143 dX11_goesOn_140) rfl) <|
  xA1 (ok_putI (xdd xB_143 dX11_goesOn_141) rfl (lk_f q1411) rfl xfd_74 (Or.inl rfl)) <|
  xA0 (ok_goto (xdd xB_143 dX11_goesOn_144) rfl) <|
  xA0 (ok_iload_n (xdd xB_143 dX11_goesOn_147) rfl rfl) <|
  xA0 (ok_bipush (xdd xB_143 dX11_goesOn_148) rfl rfl (xrg rfl)) <|
  xAB (ok_icmp_gt (xdd xB_143 dX11_goesOn_150) rfl rfl) <|
  xA0 (ok_aload_n (xdd xB_143 dX11_goesOn_153) rfl rfl) <|
  xA0 (ok_iconst (xdd xB_143 dX11_goesOn_154) rfl rfl (xrg rfl)) <|
  xA1 (ok_putI (xdd xB_143 dX11_goesOn_155) rfl (lk_f q1412) rfl xfd_75 (Or.inl rfl)) <|
  xA0 (ok_goto (xdd xB_143 dX11_goesOn_158) rfl) <|
  xAe
theorem xe_143_5 {s0 : State} {A0 : Array Value} {D : va_G} {ta : Nat → ClassId} {l : Launch} : XAll s0 A0 D ta l 143 xk_143_5 :=
  xA0 (ok_iload_n (xdd xB_143 dX11_goesOn_161) rfl rfl) <|
  xAK rfl (xC1 (ok_callS (xdd xB_143 dX11_goesOn_162) rfl xp_146_1 q1659 q1660 q124 q1661) xC0) <|
  xAB (ok_if_eq (xdd xB_143 dX11_goesOn_165) rfl rfl) <|
  xA0 (ok_aload_n (xdd xB_143 dX11_goesOn_168) rfl rfl) <|
  xA0 (ok_iconst (xdd xB_143 dX11_goesOn_169) rfl rfl (xrg rfl)) <|
  xA1 (ok_putI (xdd xB_143 dX11_goesOn_170) rfl (lk_f q1414) rfl xfd_77 (Or.inl rfl)) <|
  xA0 (ok_aload_n (xdd xB_143 dX11_goesOn_173) rfl rfl) <|
  xA0 (ok_aload_n (xdd xB_143 dX11_goesOn_174) rfl rfl) <|
  xA1 (ok_getI (xdd xB_143 dX11_goesOn_175) rfl (lk_f q1411) (by decide)) <|
  xAK rfl (xC1 (ok_callV (xdd xB_143 dX11_goesOn_178) rfl xq_9 rfl xp_144_1 q1651 q1653 qs51 q124 q1654) xC0) <|
  xAK rfl (xC1 (ok_callS (xdd xB_143 dX11_goesOn_181) rfl xp_146_1 q1659 q1660 q124 q1661) xC0) <|
  xAB (ok_if_eq (xdd xB_143 dX11_goesOn_184) rfl rfl) <|
  xA0 (ok_iload_n (xdd xB_143 dX11_goesOn_187) rfl rfl) <|
  xA0 (ok_iconst (xdd xB_143 dX11_goesOn_188) rfl rfl (xrg rfl)) <|
  xAB (ok_icmp_ge (xdd xB_143 dX11_goesOn_189) rfl rfl) <|
  xAe
theorem xe_143_6 {s0 : State} {A0 : Array Value} {D : va_G} {ta : Nat → ClassId} {l : Launch} : XAll s0 A0 D ta l 143 xk_143_6 :=
  xA0 (ok_aload_n (xdd xB_143 dX11_goesOn_192) rfl rfl) <|
  xA0 (ok_bipush (xdd xB_143 dX11_goesOn_193) rfl rfl (xrg rfl)) <|
  xA0 (ok_aload_n (xdd xB_143 dX11_goesOn_195) rfl rfl) <|
  xA1 (ok_getI (xdd xB_143 dX11_goesOn_196) rfl (lk_f q1414) (by decide)) <|
  xA1 (ok_imul (xdd xB_143 dX11_goesOn_199) rfl) <|
  xA0 (ok_aload_n (xdd xB_143 dX11_goesOn_200) rfl rfl) <|
  xA0 (ok_aload_n (xdd xB_143 dX11_goesOn_201) rfl rfl) <|
  xA1 (ok_getI (xdd xB_143 dX11_goesOn_202) rfl (lk_f q1411) (by decide)) <|
  xAK rfl (xC1 (ok_callV (xdd xB_143 dX11_goesOn_205) rfl xq_9 rfl xp_144_1 q1651 q1653 qs51 q124 q1654) xC0) <|
  xA1 (ok_iadd (xdd xB_143 dX11_goesOn_208) rfl) <|
  xA0 (ok_bipush (xdd xB_143 dX11_goesOn_209) rfl rfl (xrg rfl)) <|
  xA1 (ok_isub (xdd xB_143 dX11_goesOn_211) rfl) <|
  xA1 (ok_putI (xdd xB_143 dX11_goesOn_212) rfl (lk_f q1414) rfl xfd_77 (Or.inl rfl)) <|
  xA1 (ok_iinc (xdd xB_143 dX11_goesOn_215) rfl) <|
  xA0 (ok_aload_n (xdd xB_143 dX11_goesOn_218) rfl rfl) <|
  xA0 (ok_dup (xdd xB_143 dX11_goesOn_219) rfl) <|
  xA1 (ok_getI (xdd xB_143 dX11_goesOn_220) rfl (lk_f q1411) (by decide)) <|
  xA0 (ok_iconst (xdd xB_143 dX11_goesOn_223) rfl rfl (xrg rfl)) <|
  xAe
theorem xe_143_7 {s0 : State} {A0 : Array Value} {D : va_G} {ta : Nat → ClassId} {l : Launch} : XAll s0 A0 D ta l 143 xk_143_7 :=
  xA1 (ok_iadd (xdd xB_143 dX11_goesOn_224) rfl) <|
  xA1 (ok_putI (xdd xB_143 dX11_goesOn_225) rfl (lk_f q1411) rfl xfd_74 (Or.inl rfl)) <|
  xA0 (ok_goto (xdd xB_143 dX11_goesOn_228) rfl) <|
  xA0 (ok_iload_n (xdd xB_143 dX11_goesOn_231) rfl rfl) <|
  xA0 (ok_iconst (xdd xB_143 dX11_goesOn_232) rfl rfl (xrg rfl)) <|
  xAB (ok_icmp_gt (xdd xB_143 dX11_goesOn_233) rfl rfl) <|
  xA0 (ok_aload_n (xdd xB_143 dX11_goesOn_236) rfl rfl) <|
  xA0 (ok_iconst (xdd xB_143 dX11_goesOn_237) rfl rfl (xrg rfl)) <|
  xA1 (ok_putI (xdd xB_143 dX11_goesOn_238) rfl (lk_f q1412) rfl xfd_75 (Or.inl rfl)) <|
  xA0 (ok_goto (xdd xB_143 dX11_goesOn_241) rfl) <|
  xA0 (ok_iload_n (xdd xB_143 dX11_goesOn_244) rfl rfl) <|
  xA0 (ok_bipush (xdd xB_143 dX11_goesOn_245) rfl rfl (xrg rfl)) <|
  xAB (ok_icmp_ne (xdd xB_143 dX11_goesOn_247) rfl rfl) <|
  xA0 (ok_aload_n (xdd xB_143 dX11_goesOn_250) rfl rfl) <|
  xA0 (ok_iconst (xdd xB_143 dX11_goesOn_251) rfl rfl (xrg rfl)) <|
  xA1 (ok_putI (xdd xB_143 dX11_goesOn_252) rfl (lk_f q1412) rfl xfd_75 (Or.inl rfl)) <|
  xA0 (ok_aload_n (xdd xB_143 dX11_goesOn_255) rfl rfl) <|
  xAe
theorem xe_143_8 {s0 : State} {A0 : Array Value} {D : va_G} {ta : Nat → ClassId} {l : Launch} : XAll s0 A0 D ta l 143 xk_143_8 :=
  xA0 (ok_dup (xdd xB_143 dX11_goesOn_256) rfl) <|
  xA1 (ok_getI (xdd xB_143 dX11_goesOn_257) rfl (lk_f q1411) (by decide)) <|
  xA0 (ok_iconst (xdd xB_143 dX11_goesOn_260) rfl rfl (xrg rfl)) <|
  xA1 (ok_iadd (xdd xB_143 dX11_goesOn_261) rfl) <|
  xA1 (ok_putI (xdd xB_143 dX11_goesOn_262) rfl (lk_f q1411) rfl xfd_74 (Or.inl rfl)) <|
  xAR (ok_vreturn (xdd xB_143 dX11_goesOn_265) rfl) <|
  xAe
theorem xe_143 {s0 : State} {A0 : Array Value} {D : va_G} {ta : Nat → ClassId} {l : Launch} : XAllC s0 A0 D ta l 143 xk_143 := ⟨xe_143_0, xe_143_1, xe_143_2, xe_143_3, xe_143_4, xe_143_5, xe_143_6, xe_143_7, xe_143_8, trivial⟩
theorem xe_144_0 {s0 : State} {A0 : Array Value} {D : va_G} {ta : Nat → ClassId} {l : Launch} : XAll s0 A0 D ta l 144 xk_144_0 :=
  xA0 (ok_iload_n (xdd xB_144 dX11_byteAt_0) rfl rfl) <|
  xA0 (ok_aload_n (xdd xB_144 dX11_byteAt_1) rfl rfl) <|
  xA1 (ok_getI (xdd xB_144 dX11_byteAt_2) rfl (lk_f q1410) (by decide)) <|
  xAB (ok_icmp_ge (xdd xB_144 dX11_byteAt_5) rfl rfl) <|
  xA0 (ok_aload_n (xdd xB_144 dX11_byteAt_8) rfl rfl) <|
  xA1 (ok_getA (xdd xB_144 dX11_byteAt_9) rfl (lk_f q1408) rfl) <|
  xA0 (ok_iload_n (xdd xB_144 dX11_byteAt_12) rfl rfl) <|
  xA1 (ok_baload (xdd xB_144 dX11_byteAt_13) rfl) <|
  xA0 (ok_sipush (xdd xB_144 dX11_byteAt_14) rfl rfl (xrg rfl)) <|
  xA0 (ok_iand (xdd xB_144 dX11_byteAt_17) rfl) <|
  xA0 (ok_goto (xdd xB_144 dX11_byteAt_18) rfl) <|
  xA0 (ok_iconst (xdd xB_144 dX11_byteAt_21) rfl rfl (xrg rfl)) <|
  xAR (ok_ireturn (xdd xB_144 dX11_byteAt_22) rfl) <|
  xAe
theorem xe_144 {s0 : State} {A0 : Array Value} {D : va_G} {ta : Nat → ClassId} {l : Launch} : XAllC s0 A0 D ta l 144 xk_144 := ⟨xe_144_0, trivial⟩
theorem xe_145_0 {s0 : State} {A0 : Array Value} {D : va_G} {ta : Nat → ClassId} {l : Launch} : XAll s0 A0 D ta l 145 xk_145_0 :=
  xA0 (ok_iload_n (xdd xB_145 dX11_isLetter_0) rfl rfl) <|
  xA0 (ok_bipush (xdd xB_145 dX11_isLetter_1) rfl rfl (xrg rfl)) <|
  xAB (ok_icmp_lt (xdd xB_145 dX11_isLetter_3) rfl rfl) <|
  xA0 (ok_iload_n (xdd xB_145 dX11_isLetter_6) rfl rfl) <|
  xA0 (ok_bipush (xdd xB_145 dX11_isLetter_7) rfl rfl (xrg rfl)) <|
  xAB (ok_icmp_gt (xdd xB_145 dX11_isLetter_9) rfl rfl) <|
  xA0 (ok_iconst (xdd xB_145 dX11_isLetter_12) rfl rfl (xrg rfl)) <|
  xA0 (ok_goto (xdd xB_145 dX11_isLetter_13) rfl) <|
  xA0 (ok_iconst (xdd xB_145 dX11_isLetter_16) rfl rfl (xrg rfl)) <|
  xAR (ok_zreturn (xdd xB_145 dX11_isLetter_17) rfl) <|
  xAe
theorem xe_145 {s0 : State} {A0 : Array Value} {D : va_G} {ta : Nat → ClassId} {l : Launch} : XAllC s0 A0 D ta l 145 xk_145 := ⟨xe_145_0, trivial⟩
theorem xe_146_0 {s0 : State} {A0 : Array Value} {D : va_G} {ta : Nat → ClassId} {l : Launch} : XAll s0 A0 D ta l 146 xk_146_0 :=
  xA0 (ok_iload_n (xdd xB_146 dX11_isDigit_0) rfl rfl) <|
  xA0 (ok_bipush (xdd xB_146 dX11_isDigit_1) rfl rfl (xrg rfl)) <|
  xAB (ok_icmp_lt (xdd xB_146 dX11_isDigit_3) rfl rfl) <|
  xA0 (ok_iload_n (xdd xB_146 dX11_isDigit_6) rfl rfl) <|
  xA0 (ok_bipush (xdd xB_146 dX11_isDigit_7) rfl rfl (xrg rfl)) <|
  xAB (ok_icmp_gt (xdd xB_146 dX11_isDigit_9) rfl rfl) <|
  xA0 (ok_iconst (xdd xB_146 dX11_isDigit_12) rfl rfl (xrg rfl)) <|
  xA0 (ok_goto (xdd xB_146 dX11_isDigit_13) rfl) <|
  xA0 (ok_iconst (xdd xB_146 dX11_isDigit_16) rfl rfl (xrg rfl)) <|
  xAR (ok_zreturn (xdd xB_146 dX11_isDigit_17) rfl) <|
  xAe
theorem xe_146 {s0 : State} {A0 : Array Value} {D : va_G} {ta : Nat → ClassId} {l : Launch} : XAllC s0 A0 D ta l 146 xk_146 := ⟨xe_146_0, trivial⟩
theorem xe_147_0 {s0 : State} {A0 : Array Value} {D : va_G} {ta : Nat → ClassId} {l : Launch} : XAll s0 A0 D ta l 147 xk_147_0 :=
  xA0 (ok_iconst (xdd xB_147 dX11_readAll_0) rfl rfl (xrg rfl)) <|
  xA0 (ok_istore_n (xdd xB_147 dX11_readAll_1) rfl rfl) <|
  xA0 (ok_iload_n (xdd xB_147 dX11_readAll_2) rfl rfl) <|
  xAB (ok_if_eq (xdd xB_147 dX11_readAll_3) rfl rfl) <|
  xA0 (ok_aload_n (xdd xB_147 dX11_readAll_6) rfl rfl) <|
  xAK rfl (xC1 (ok_callV (xdd xB_147 dX11_readAll_7) rfl xq_9 rfl xp_148_0 q1666 q1668 qs53 q124 q1669) xC0) <|
  xA0 (ok_aload_n (xdd xB_147 dX11_readAll_10) rfl rfl) <|
  xAK rfl (xC1 (ok_callV (xdd xB_147 dX11_readAll_11) rfl xq_9 rfl xp_172_0 q1820 q1822 qs75 q124 q1823) xC0) <|
  xA0 (ok_istore_n (xdd xB_147 dX11_readAll_14) rfl rfl) <|
  xA0 (ok_goto (xdd xB_147 dX11_readAll_15) rfl) <|
  xA0 (ok_aload_n (xdd xB_147 dX11_readAll_18) rfl rfl) <|
  xA1 (ok_getI (xdd xB_147 dX11_readAll_19) rfl (lk_f q1412) (by decide)) <|
  xA0 (ok_iconst (xdd xB_147 dX11_readAll_22) rfl rfl (xrg rfl)) <|
  xAB (ok_icmp_eq (xdd xB_147 dX11_readAll_23) rfl rfl) <|
  xA0 (ok_aload_n (xdd xB_147 dX11_readAll_26) rfl rfl) <|
  xA0 (ok_iconst (xdd xB_147 dX11_readAll_27) rfl rfl (xrg rfl)) <|
  xAK rfl (xC1 (ok_callV (xdd xB_147 dX11_readAll_28) rfl xq_9 rfl xp_152_1 q1710 q1712 qs56 q124 q1713) xC0) <|
  xA0 (ok_aload_n (xdd xB_147 dX11_readAll_31) rfl rfl) <|
  xAe
theorem xe_147_1 {s0 : State} {A0 : Array Value} {D : va_G} {ta : Nat → ClassId} {l : Launch} : XAll s0 A0 D ta l 147 xk_147_1 :=
  xA1 (ok_getA (xdd xB_147 dX11_readAll_32) rfl (lk_f q1407) rfl) <|
  xA1 (ok_getI (xdd xB_147 dX11_readAll_35) rfl (lk_n q1546) (by decide)) <|
  xA0 (ok_iconst (xdd xB_147 dX11_readAll_38) rfl rfl (xrg rfl)) <|
  xAB (ok_icmp_ge (xdd xB_147 dX11_readAll_39) rfl rfl) <|
  xA0 (ok_aload_n (xdd xB_147 dX11_readAll_42) rfl rfl) <|
  xA0 (ok_bipush (xdd xB_147 dX11_readAll_43) rfl rfl (xrg rfl)) <|
  xAK rfl (xC1 (ok_callV (xdd xB_147 dX11_readAll_45) rfl xq_9 rfl xp_152_1 q1710 q1712 qs56 q124 q1713) xC0) <|
  xAR (ok_vreturn (xdd xB_147 dX11_readAll_48) rfl) <|
  xAe
theorem xe_147 {s0 : State} {A0 : Array Value} {D : va_G} {ta : Nat → ClassId} {l : Launch} : XAllC s0 A0 D ta l 147 xk_147 := ⟨xe_147_0, xe_147_1, trivial⟩
theorem xe_148_0 {s0 : State} {A0 : Array Value} {D : va_G} {ta : Nat → ClassId} {l : Launch} : XAll s0 A0 D ta l 148 xk_148_0 :=
  xA0 (ok_aload_n (xdd xB_148 dX11_readLine_0) rfl rfl) <|
  xA0 (ok_ldcS (xdd xB_148 dX11_readLine_1) rfl rfl) <|
  xAK rfl (xC1 (ok_callV (xdd xB_148 dX11_readLine_3) rfl xq_9 rfl xp_149_1 q1671 q1673 qs54 q124 q1674) xC0) <|
  xAB (ok_if_eq (xdd xB_148 dX11_readLine_6) rfl rfl) <|
  xA0 (ok_aload_n (xdd xB_148 dX11_readLine_9) rfl rfl) <|
  xAK rfl (xC1 (ok_callV (xdd xB_148 dX11_readLine_10) rfl xq_9 rfl xp_151_0 q1706 q1708 qs55 q124 q1709) xC0) <|
  xA0 (ok_goto (xdd xB_148 dX11_readLine_13) rfl) <|
  xA0 (ok_aload_n (xdd xB_148 dX11_readLine_16) rfl rfl) <|
  xA0 (ok_ldcS (xdd xB_148 dX11_readLine_17) rfl rfl) <|
  xAK rfl (xC1 (ok_callV (xdd xB_148 dX11_readLine_19) rfl xq_9 rfl xp_149_1 q1671 q1673 qs54 q124 q1674) xC0) <|
  xAB (ok_if_eq (xdd xB_148 dX11_readLine_22) rfl rfl) <|
  xA0 (ok_aload_n (xdd xB_148 dX11_readLine_25) rfl rfl) <|
  xAK rfl (xC1 (ok_callV (xdd xB_148 dX11_readLine_26) rfl xq_9 rfl xp_157_0 q1732 q1734 qs60 q124 q1735) xC0) <|
  xA0 (ok_goto (xdd xB_148 dX11_readLine_29) rfl) <|
  xAe
theorem xe_148_1 {s0 : State} {A0 : Array Value} {D : va_G} {ta : Nat → ClassId} {l : Launch} : XAll s0 A0 D ta l 148 xk_148_1 :=
  xA0 (ok_aload_n (xdd xB_148 dX11_readLine_32) rfl rfl) <|
  xA0 (ok_ldcS (xdd xB_148 dX11_readLine_33) rfl rfl) <|
  xAK rfl (xC1 (ok_callV (xdd xB_148 dX11_readLine_35) rfl xq_9 rfl xp_149_1 q1671 q1673 qs54 q124 q1674) xC0) <|
  xAB (ok_if_eq (xdd xB_148 dX11_readLine_38) rfl rfl) <|
  xA0 (ok_aload_n (xdd xB_148 dX11_readLine_41) rfl rfl) <|
  xAK rfl (xC1 (ok_callV (xdd xB_148 dX11_readLine_42) rfl xq_9 rfl xp_163_0 q1770 q1772 qs66 q124 q1773) xC0) <|
  xA0 (ok_goto (xdd xB_148 dX11_readLine_45) rfl) <|
  xA0 (ok_aload_n (xdd xB_148 dX11_readLine_48) rfl rfl) <|
  xA0 (ok_ldcS (xdd xB_148 dX11_readLine_49) rfl rfl) <|
  xAK rfl (xC1 (ok_callV (xdd xB_148 dX11_readLine_51) rfl xq_9 rfl xp_149_1 q1671 q1673 qs54 q124 q1674) xC0) <|
  xAB (ok_if_eq (xdd xB_148 dX11_readLine_54) rfl rfl) <|
  xA0 (ok_aload_n (xdd xB_148 dX11_readLine_57) rfl rfl) <|
  xAK rfl (xC1 (ok_callV (xdd xB_148 dX11_readLine_58) rfl xq_9 rfl xp_165_0 q1783 q1785 qs68 q124 q1786) xC0) <|
  xA0 (ok_goto (xdd xB_148 dX11_readLine_61) rfl) <|
  xAe
theorem xe_148_2 {s0 : State} {A0 : Array Value} {D : va_G} {ta : Nat → ClassId} {l : Launch} : XAll s0 A0 D ta l 148 xk_148_2 :=
  xA0 (ok_aload_n (xdd xB_148 dX11_readLine_64) rfl rfl) <|
  xA0 (ok_ldcS (xdd xB_148 dX11_readLine_65) rfl rfl) <|
  xAK rfl (xC1 (ok_callV (xdd xB_148 dX11_readLine_67) rfl xq_9 rfl xp_149_1 q1671 q1673 qs54 q124 q1674) xC0) <|
  xAB (ok_if_eq (xdd xB_148 dX11_readLine_70) rfl rfl) <|
  xA0 (ok_aload_n (xdd xB_148 dX11_readLine_73) rfl rfl) <|
  xAK rfl (xC1 (ok_callV (xdd xB_148 dX11_readLine_74) rfl xq_9 rfl xp_166_0 q1793 q1795 qs69 q124 q1796) xC0) <|
  xA0 (ok_goto (xdd xB_148 dX11_readLine_77) rfl) <|
  xA0 (ok_aload_n (xdd xB_148 dX11_readLine_80) rfl rfl) <|
  xA0 (ok_ldcS (xdd xB_148 dX11_readLine_81) rfl rfl) <|
  xAK rfl (xC1 (ok_callV (xdd xB_148 dX11_readLine_83) rfl xq_9 rfl xp_149_1 q1671 q1673 qs54 q124 q1674) xC0) <|
  xAB (ok_if_eq (xdd xB_148 dX11_readLine_86) rfl rfl) <|
  xA0 (ok_aload_n (xdd xB_148 dX11_readLine_89) rfl rfl) <|
  xAK rfl (xC1 (ok_callV (xdd xB_148 dX11_readLine_90) rfl xq_9 rfl xp_168_0 q1802 q1804 qs71 q124 q1805) xC0) <|
  xA0 (ok_goto (xdd xB_148 dX11_readLine_93) rfl) <|
  xAe
theorem xe_148_3 {s0 : State} {A0 : Array Value} {D : va_G} {ta : Nat → ClassId} {l : Launch} : XAll s0 A0 D ta l 148 xk_148_3 :=
  xA0 (ok_aload_n (xdd xB_148 dX11_readLine_96) rfl rfl) <|
  xA0 (ok_ldcS (xdd xB_148 dX11_readLine_97) rfl rfl) <|
  xAK rfl (xC1 (ok_callV (xdd xB_148 dX11_readLine_99) rfl xq_9 rfl xp_149_1 q1671 q1673 qs54 q124 q1674) xC0) <|
  xAB (ok_if_eq (xdd xB_148 dX11_readLine_102) rfl rfl) <|
  xA0 (ok_aload_n (xdd xB_148 dX11_readLine_105) rfl rfl) <|
  xAK rfl (xC1 (ok_callV (xdd xB_148 dX11_readLine_106) rfl xq_9 rfl xp_170_0 q1812 q1814 qs73 q124 q1815) xC0) <|
  xA0 (ok_goto (xdd xB_148 dX11_readLine_109) rfl) <|
  xA0 (ok_aload_n (xdd xB_148 dX11_readLine_112) rfl rfl) <|
  xA0 (ok_ldcS (xdd xB_148 dX11_readLine_113) rfl rfl) <|
  xAK rfl (xC1 (ok_callV (xdd xB_148 dX11_readLine_115) rfl xq_9 rfl xp_149_1 q1671 q1673 qs54 q124 q1674) xC0) <|
  xAB (ok_if_eq (xdd xB_148 dX11_readLine_118) rfl rfl) <|
  xA0 (ok_aload_n (xdd xB_148 dX11_readLine_121) rfl rfl) <|
  xAK rfl (xC1 (ok_callV (xdd xB_148 dX11_readLine_122) rfl xq_9 rfl xp_171_0 q1816 q1818 qs74 q124 q1819) xC0) <|
  xA0 (ok_goto (xdd xB_148 dX11_readLine_125) rfl) <|
  xAe
theorem xe_148_4 {s0 : State} {A0 : Array Value} {D : va_G} {ta : Nat → ClassId} {l : Launch} : XAll s0 A0 D ta l 148 xk_148_4 :=
  xA0 (ok_aload_n (xdd xB_148 dX11_readLine_128) rfl rfl) <|
  xA0 (ok_iconst (xdd xB_148 dX11_readLine_129) rfl rfl (xrg rfl)) <|
  xAK rfl (xC1 (ok_callV (xdd xB_148 dX11_readLine_130) rfl xq_9 rfl xp_152_1 q1710 q1712 qs56 q124 q1713) xC0) <|
  xAR (ok_vreturn (xdd xB_148 dX11_readLine_133) rfl) <|
  xAe
theorem xe_148 {s0 : State} {A0 : Array Value} {D : va_G} {ta : Nat → ClassId} {l : Launch} : XAllC s0 A0 D ta l 148 xk_148 := ⟨xe_148_0, xe_148_1, xe_148_2, xe_148_3, xe_148_4, trivial⟩
theorem xe_149_0 {s0 : State} {A0 : Array Value} {D : va_G} {ta : Nat → ClassId} {l : Launch} : XAll s0 A0 D ta l 149 xk_149_0 :=
  xA0 (ok_aload_n (xdd xB_149 dX11_isWord_0) rfl rfl) <|
  xA1 (ok_getI (xdd xB_149 dX11_isWord_1) rfl (lk_f q1412) (by decide)) <|
  xA0 (ok_iconst (xdd xB_149 dX11_isWord_4) rfl rfl (xrg rfl)) <|
  xAB (ok_icmp_ne (xdd xB_149 dX11_isWord_5) rfl rfl) <|
  xA0 (ok_aload_n (xdd xB_149 dX11_isWord_8) rfl rfl) <|
  xA1 (ok_getJ (xdd xB_149 dX11_isWord_9) rfl (lk_f q1417) rfl) <|
  xA0 (ok_aload_n (xdd xB_149 dX11_isWord_12) rfl rfl) <|
  xAK rfl (xC1 (ok_callS (xdd xB_149 dX11_isWord_13) rfl xp_150_1 q1675 q1676 q124 q1677) xC0) <|
  xA0 (ok_lcmp (xdd xB_149 dX11_isWord_16) rfl) <|
  xAB (ok_if_ne (xdd xB_149 dX11_isWord_17) rfl rfl) <|
  xA0 (ok_iconst (xdd xB_149 dX11_isWord_20) rfl rfl (xrg rfl)) <|
  xA0 (ok_goto (xdd xB_149 dX11_isWord_21) rfl) <|
  xA0 (ok_iconst (xdd xB_149 dX11_isWord_24) rfl rfl (xrg rfl)) <|
  xAR (ok_zreturn (xdd xB_149 dX11_isWord_25) rfl) <|
  xAe
theorem xe_149 {s0 : State} {A0 : Array Value} {D : va_G} {ta : Nat → ClassId} {l : Launch} : XAllC s0 A0 D ta l 149 xk_149 := ⟨xe_149_0, trivial⟩
