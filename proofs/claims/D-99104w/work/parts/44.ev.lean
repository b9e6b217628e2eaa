/-! EVIDENCE: methods 0 to 49 -/
set_option maxRecDepth 100000
set_option maxHeartbeats 4000000
theorem xe_0_0 {s0 : State} {A0 : Array Value} {D : va_G} {ta : Nat → ClassId} {l : Launch} : XAll s0 A0 D ta l 0 xk_0_0 :=
  xA0 (ok_aload_n (xdd xB_0 dX0_led_0) rfl rfl) <|
  xA0 (ok_iconst (xdd xB_0 dX0_led_1) rfl rfl (xrg rfl)) <|
  xA0 (ok_aload_n (xdd xB_0 dX0_led_2) rfl rfl) <|
  xA0 (ok_iload_n (xdd xB_0 dX0_led_3) rfl rfl) <|
  xAK rfl (xC1 (ok_callV (xdd xB_0 dX0_led_4) rfl xq_0 rfl xp_72_1 q1372 q1373 q1374 q111 q1375) xC0) <|
  xA0 (ok_i2l (xdd xB_0 dX0_led_7) rfl) <|
  xA1 (ok_lastore (xdd xB_0 dX0_led_8) rfl) <|
  xA0 (ok_goto (xdd xB_0 dX0_led_9) rfl) <|
  xA0 (ok_astore_n (xdd xB_0 dX0_led_12) rfl rfl) <|
  xA0 (ok_iconst (xdd xB_0 dX0_led_13) rfl rfl (xrg rfl)) <|
  xAR (ok_ireturn (xdd xB_0 dX0_led_14) rfl) <|
  xA0 (ok_iconst (xdd xB_0 dX0_led_15) rfl rfl (xrg rfl)) <|
  xAR (ok_ireturn (xdd xB_0 dX0_led_16) rfl) <|
  xAe
theorem xe_0 {s0 : State} {A0 : Array Value} {D : va_G} {ta : Nat → ClassId} {l : Launch} : XAllC s0 A0 D ta l 0 xk_0 := ⟨xe_0_0, trivial⟩
theorem xe_1_0 {s0 : State} {A0 : Array Value} {D : va_G} {ta : Nat → ClassId} {l : Launch} : XAll s0 A0 D ta l 1 xk_1_0 :=
  xA0 (ok_aload_n (xdd xB_1 dX1_init_0) rfl rfl) <|
  xA1 (ok_obj (xdd xB_1 dX1_init_1) rfl q146 q147 q148) <|
  xA0 (ok_aload_n (xdd xB_1 dX1_init_4) rfl rfl) <|
  xA0 (ok_sipush (xdd xB_1 dX1_init_5) rfl rfl (xrg rfl)) <|
  xA1 (ok_new_byte (xdd xB_1 dX1_init_8) rfl) <|
  xA1 (ok_putA (xdd xB_1 dX1_init_10) rfl (lk_f q400) rfl xfd_0 (Or.inr ⟨_, rfl⟩) (Or.inr ⟨rfl, rfl, rfl⟩)) <|
  xA0 (ok_aload_n (xdd xB_1 dX1_init_13) rfl rfl) <|
  xA0 (ok_newo (xdd xB_1 dX1_init_14) rfl xq_1 q149 q150 q112) <|
  xA0 (ok_dup (xdd xB_1 dX1_init_17) rfl) <|
  xA0 (ok_aload_n (xdd xB_1 dX1_init_18) rfl rfl) <|
  xA1 (ok_getA (xdd xB_1 dX1_init_19) rfl (lk_f q400) rfl) <|
  xAK rfl (xC1 (ok_callI (xdd xB_1 dX1_init_22) rfl xq_1 rfl rfl xp_73_1 q151 q152 q112 q153) xC0) <|
  xA1 (ok_putA (xdd xB_1 dX1_init_25) rfl (lk_f q402) rfl xfd_2 (Or.inl ⟨_, rfl⟩) (Or.inr ⟨rfl, rfl, rfl⟩)) <|
  xA0 (ok_aload_n (xdd xB_1 dX1_init_28) rfl rfl) <|
  xA0 (ok_iconst (xdd xB_1 dX1_init_29) rfl rfl (xrg rfl)) <|
  xA1 (ok_putI (xdd xB_1 dX1_init_30) rfl (lk_f q406) rfl xfd_6 (Or.inl rfl)) <|
  xAe
theorem xe_1_1 {s0 : State} {A0 : Array Value} {D : va_G} {ta : Nat → ClassId} {l : Launch} : XAll s0 A0 D ta l 1 xk_1_1 :=
  xA0 (ok_aload_n (xdd xB_1 dX1_init_33) rfl rfl) <|
  xA0 (ok_newo (xdd xB_1 dX1_init_34) rfl xq_3 q264 q265 q117) <|
  xA0 (ok_dup (xdd xB_1 dX1_init_37) rfl) <|
  xAK rfl (xC1 (ok_callIN (xdd xB_1 dX1_init_38) rfl xq_3 rfl rfl xp_105_0 q266 q267 q117 q268) xC0) <|
  xA1 (ok_putA (xdd xB_1 dX1_init_41) rfl (lk_f q409) rfl xfd_9 (Or.inl ⟨_, rfl⟩) (Or.inr ⟨rfl, rfl, rfl⟩)) <|
  xA0 (ok_aload_n (xdd xB_1 dX1_init_44) rfl rfl) <|
  xA0 (ok_newo (xdd xB_1 dX1_init_45) rfl xq_3 q264 q265 q117) <|
  xA0 (ok_dup (xdd xB_1 dX1_init_48) rfl) <|
  xAK rfl (xC1 (ok_callIN (xdd xB_1 dX1_init_49) rfl xq_3 rfl rfl xp_105_0 q266 q267 q117 q268) xC0) <|
  xA1 (ok_putA (xdd xB_1 dX1_init_52) rfl (lk_f q410) rfl xfd_10 (Or.inl ⟨_, rfl⟩) (Or.inr ⟨rfl, rfl, rfl⟩)) <|
  xA0 (ok_aload_n (xdd xB_1 dX1_init_55) rfl rfl) <|
  xA0 (ok_newo (xdd xB_1 dX1_init_56) rfl xq_3 q264 q265 q117) <|
  xA0 (ok_dup (xdd xB_1 dX1_init_59) rfl) <|
  xAK rfl (xC1 (ok_callIN (xdd xB_1 dX1_init_60) rfl xq_3 rfl rfl xp_105_0 q266 q267 q117 q268) xC0) <|
  xA1 (ok_putA (xdd xB_1 dX1_init_63) rfl (lk_f q411) rfl xfd_11 (Or.inl ⟨_, rfl⟩) (Or.inr ⟨rfl, rfl, rfl⟩)) <|
  xAe
theorem xe_1_2 {s0 : State} {A0 : Array Value} {D : va_G} {ta : Nat → ClassId} {l : Launch} : XAll s0 A0 D ta l 1 xk_1_2 :=
  xA0 (ok_aload_n (xdd xB_1 dX1_init_66) rfl rfl) <|
  xA0 (ok_newo (xdd xB_1 dX1_init_67) rfl xq_4 q293 q294 q118) <|
  xA0 (ok_dup (xdd xB_1 dX1_init_70) rfl) <|
  xAK rfl (xC1 (ok_callIN (xdd xB_1 dX1_init_71) rfl xq_4 rfl rfl xp_116_0 q295 q296 q118 q297) xC0) <|
  xA1 (ok_putA (xdd xB_1 dX1_init_74) rfl (lk_f q412) rfl xfd_12 (Or.inl ⟨_, rfl⟩) (Or.inr ⟨rfl, rfl, rfl⟩)) <|
  xA0 (ok_aload_n (xdd xB_1 dX1_init_77) rfl rfl) <|
  xA0 (ok_newo (xdd xB_1 dX1_init_78) rfl xq_5 q324 q325 q120) <|
  xA0 (ok_dup (xdd xB_1 dX1_init_81) rfl) <|
  xAK rfl (xC1 (ok_callIN (xdd xB_1 dX1_init_82) rfl xq_5 rfl rfl xp_122_0 q326 q327 q120 q328) (xC1 (ok_callIN (xdd xB_1 dX1_init_82) rfl xq_6 rfl rfl xp_122_0 q326 q327 q120 q328) xC0)) <|
  xA1 (ok_putA (xdd xB_1 dX1_init_85) rfl (lk_f q413) rfl xfd_13 (Or.inl ⟨_, rfl⟩) (Or.inr ⟨rfl, rfl, rfl⟩)) <|
  xA0 (ok_aload_n (xdd xB_1 dX1_init_88) rfl rfl) <|
  xA0 (ok_newo (xdd xB_1 dX1_init_89) rfl xq_6 q334 q335 q121) <|
  xA0 (ok_dup (xdd xB_1 dX1_init_92) rfl) <|
  xAK rfl (xC1 (ok_callIN (xdd xB_1 dX1_init_93) rfl xq_6 rfl rfl xp_124_0 q336 q337 q121 q338) xC0) <|
  xAe
theorem xe_1_3 {s0 : State} {A0 : Array Value} {D : va_G} {ta : Nat → ClassId} {l : Launch} : XAll s0 A0 D ta l 1 xk_1_3 :=
  xA1 (ok_putA (xdd xB_1 dX1_init_96) rfl (lk_f q414) rfl xfd_14 (Or.inl ⟨_, rfl⟩) (Or.inr ⟨rfl, rfl, rfl⟩)) <|
  xA0 (ok_aload_n (xdd xB_1 dX1_init_99) rfl rfl) <|
  xA0 (ok_newo (xdd xB_1 dX1_init_100) rfl xq_7 q341 q342 q122) <|
  xA0 (ok_dup (xdd xB_1 dX1_init_103) rfl) <|
  xAK rfl (xC1 (ok_callIN (xdd xB_1 dX1_init_104) rfl xq_7 rfl rfl xp_126_0 q343 q344 q122 q345) xC0) <|
  xA1 (ok_putA (xdd xB_1 dX1_init_107) rfl (lk_f q415) rfl xfd_15 (Or.inl ⟨_, rfl⟩) (Or.inr ⟨rfl, rfl, rfl⟩)) <|
  xA0 (ok_aload_n (xdd xB_1 dX1_init_110) rfl rfl) <|
  xA0 (ok_newo (xdd xB_1 dX1_init_111) rfl xq_8 q370 q371 q123) <|
  xA0 (ok_dup (xdd xB_1 dX1_init_114) rfl) <|
  xAK rfl (xC1 (ok_callI (xdd xB_1 dX1_init_115) rfl xq_8 rfl rfl xp_134_0 q372 q373 q123 q374) xC0) <|
  xA1 (ok_putA (xdd xB_1 dX1_init_118) rfl (lk_f q416) rfl xfd_16 (Or.inl ⟨_, rfl⟩) (Or.inr ⟨rfl, rfl, rfl⟩)) <|
  xA0 (ok_aload_n (xdd xB_1 dX1_init_121) rfl rfl) <|
  xA0 (ok_bipush (xdd xB_1 dX1_init_122) rfl rfl (xrg rfl)) <|
  xA1 (ok_anew_Rooms (xdd xB_1 dX1_init_124) rfl q264) <|
  xA1 (ok_putA (xdd xB_1 dX1_init_127) rfl (lk_f q417) rfl xfd_17 (Or.inr ⟨_, rfl⟩) (Or.inr ⟨rfl, rfl, rfl⟩)) <|
  xAe
theorem xe_1_4 {s0 : State} {A0 : Array Value} {D : va_G} {ta : Nat → ClassId} {l : Launch} : XAll s0 A0 D ta l 1 xk_1_4 :=
  xA0 (ok_aload_n (xdd xB_1 dX1_init_130) rfl rfl) <|
  xA0 (ok_iconst (xdd xB_1 dX1_init_131) rfl rfl (xrg rfl)) <|
  xA1 (ok_anew_Rooms (xdd xB_1 dX1_init_132) rfl q264) <|
  xA1 (ok_putA (xdd xB_1 dX1_init_135) rfl (lk_f q418) rfl xfd_18 (Or.inr ⟨_, rfl⟩) (Or.inr ⟨rfl, rfl, rfl⟩)) <|
  xA0 (ok_aload_n (xdd xB_1 dX1_init_138) rfl rfl) <|
  xA0 (ok_bipush (xdd xB_1 dX1_init_139) rfl rfl (xrg rfl)) <|
  xA1 (ok_new_int (xdd xB_1 dX1_init_141) rfl) <|
  xA1 (ok_putA (xdd xB_1 dX1_init_143) rfl (lk_f q419) rfl xfd_19 (Or.inr ⟨_, rfl⟩) (Or.inr ⟨rfl, rfl, rfl⟩)) <|
  xA0 (ok_iconst (xdd xB_1 dX1_init_146) rfl rfl (xrg rfl)) <|
  xA0 (ok_istore_n (xdd xB_1 dX1_init_147) rfl rfl) <|
  xA0 (ok_iload_n (xdd xB_1 dX1_init_148) rfl rfl) <|
  xA0 (ok_bipush (xdd xB_1 dX1_init_149) rfl rfl (xrg rfl)) <|
  xAB (ok_icmp_ge (xdd xB_1 dX1_init_151) rfl rfl) <|
  xA0 (ok_aload_n (xdd xB_1 dX1_init_154) rfl rfl) <|
  xA1 (ok_getA (xdd xB_1 dX1_init_155) rfl (lk_f q417) rfl) <|
  xA0 (ok_iload_n (xdd xB_1 dX1_init_158) rfl rfl) <|
  xA0 (ok_newo (xdd xB_1 dX1_init_159) rfl xq_3 q264 q265 q117) <|
  xAe
theorem xe_1_5 {s0 : State} {A0 : Array Value} {D : va_G} {ta : Nat → ClassId} {l : Launch} : XAll s0 A0 D ta l 1 xk_1_5 :=
  xA0 (ok_dup (xdd xB_1 dX1_init_162) rfl) <|
  xAK rfl (xC1 (ok_callIN (xdd xB_1 dX1_init_163) rfl xq_3 rfl rfl xp_105_0 q266 q267 q117 q268) xC0) <|
  xA1 (ok_aastore (xdd xB_1 dX1_init_166) rfl) <|
  xA1 (ok_iinc (xdd xB_1 dX1_init_167) rfl) <|
  xA0 (ok_goto (xdd xB_1 dX1_init_170) rfl) <|
  xA0 (ok_iconst (xdd xB_1 dX1_init_173) rfl rfl (xrg rfl)) <|
  xA0 (ok_istore_n (xdd xB_1 dX1_init_174) rfl rfl) <|
  xA0 (ok_iload_n (xdd xB_1 dX1_init_175) rfl rfl) <|
  xA0 (ok_iconst (xdd xB_1 dX1_init_176) rfl rfl (xrg rfl)) <|
  xAB (ok_icmp_ge (xdd xB_1 dX1_init_177) rfl rfl) <|
  xA0 (ok_aload_n (xdd xB_1 dX1_init_180) rfl rfl) <|
  xA1 (ok_getA (xdd xB_1 dX1_init_181) rfl (lk_f q418) rfl) <|
  xA0 (ok_iload_n (xdd xB_1 dX1_init_184) rfl rfl) <|
  xA0 (ok_newo (xdd xB_1 dX1_init_185) rfl xq_3 q264 q265 q117) <|
  xA0 (ok_dup (xdd xB_1 dX1_init_188) rfl) <|
  xAK rfl (xC1 (ok_callIN (xdd xB_1 dX1_init_189) rfl xq_3 rfl rfl xp_105_0 q266 q267 q117 q268) xC0) <|
  xAe
theorem xe_1_6 {s0 : State} {A0 : Array Value} {D : va_G} {ta : Nat → ClassId} {l : Launch} : XAll s0 A0 D ta l 1 xk_1_6 :=
  xA1 (ok_aastore (xdd xB_1 dX1_init_192) rfl) <|
  xA1 (ok_iinc (xdd xB_1 dX1_init_193) rfl) <|
  xA0 (ok_goto (xdd xB_1 dX1_init_196) rfl) <|
  xAR (ok_vreturn (xdd xB_1 dX1_init_199) rfl) <|
  xAe
theorem xe_1 {s0 : State} {A0 : Array Value} {D : va_G} {ta : Nat → ClassId} {l : Launch} : XAllC s0 A0 D ta l 1 xk_1 := ⟨xe_1_0, xe_1_1, xe_1_2, xe_1_3, xe_1_4, xe_1_5, xe_1_6, trivial⟩
theorem xe_2_0 {s0 : State} {A0 : Array Value} {D : va_G} {ta : Nat → ClassId} {l : Launch} : XAll s0 A0 D ta l 2 xk_2_0 :=
  xA0 (ok_aload_n (xdd xB_2 dX1_feed_0) rfl rfl) <|
  xA1 (ok_getI (xdd xB_2 dX1_feed_1) rfl (lk_f q401) (by decide)) <|
  xA0 (ok_bipush (xdd xB_2 dX1_feed_4) rfl rfl (xrg rfl)) <|
  xA1 (ok_iadd (xdd xB_2 dX1_feed_6) rfl) <|
  xA0 (ok_sipush (xdd xB_2 dX1_feed_7) rfl rfl (xrg rfl)) <|
  xAB (ok_icmp_le (xdd xB_2 dX1_feed_10) rfl rfl) <|
  xA0 (ok_iconst (xdd xB_2 dX1_feed_13) rfl rfl (xrg rfl)) <|
  xAR (ok_ireturn (xdd xB_2 dX1_feed_14) rfl) <|
  xA0 (ok_aload_n (xdd xB_2 dX1_feed_15) rfl rfl) <|
  xA0 (ok_iload_n (xdd xB_2 dX1_feed_16) rfl rfl) <|
  xAK rfl (xC1 (ok_callV (xdd xB_2 dX1_feed_17) rfl xq_0 rfl xp_3_1 q468 q470 qs1 q111 q471) xC0) <|
  xA0 (ok_aload_n (xdd xB_2 dX1_feed_20) rfl rfl) <|
  xA0 (ok_iload_n (xdd xB_2 dX1_feed_21) rfl rfl) <|
  xAK rfl (xC1 (ok_callV (xdd xB_2 dX1_feed_22) rfl xq_0 rfl xp_3_1 q468 q470 qs1 q111 q471) xC0) <|
  xA0 (ok_aload_n (xdd xB_2 dX1_feed_25) rfl rfl) <|
  xA0 (ok_iload_n (xdd xB_2 dX1_feed_26) rfl rfl) <|
  xAK rfl (xC1 (ok_callV (xdd xB_2 dX1_feed_27) rfl xq_0 rfl xp_3_1 q468 q470 qs1 q111 q471) xC0) <|
  xA0 (ok_aload_n (xdd xB_2 dX1_feed_30) rfl rfl) <|
  xA0 (ok_iload (xdd xB_2 dX1_feed_31) rfl) <|
  xAe
theorem xe_2_1 {s0 : State} {A0 : Array Value} {D : va_G} {ta : Nat → ClassId} {l : Launch} : XAll s0 A0 D ta l 2 xk_2_1 :=
  xAK rfl (xC1 (ok_callV (xdd xB_2 dX1_feed_33) rfl xq_0 rfl xp_3_1 q468 q470 qs1 q111 q471) xC0) <|
  xA0 (ok_aload_n (xdd xB_2 dX1_feed_36) rfl rfl) <|
  xA0 (ok_iload (xdd xB_2 dX1_feed_37) rfl) <|
  xAK rfl (xC1 (ok_callV (xdd xB_2 dX1_feed_39) rfl xq_0 rfl xp_3_1 q468 q470 qs1 q111 q471) xC0) <|
  xA0 (ok_aload_n (xdd xB_2 dX1_feed_42) rfl rfl) <|
  xA1 (ok_getI (xdd xB_2 dX1_feed_43) rfl (lk_f q401) (by decide)) <|
  xAR (ok_ireturn (xdd xB_2 dX1_feed_46) rfl) <|
  xAe
theorem xe_2 {s0 : State} {A0 : Array Value} {D : va_G} {ta : Nat → ClassId} {l : Launch} : XAllC s0 A0 D ta l 2 xk_2 := ⟨xe_2_0, xe_2_1, trivial⟩
theorem xe_3_0 {s0 : State} {A0 : Array Value} {D : va_G} {ta : Nat → ClassId} {l : Launch} : XAll s0 A0 D ta l 3 xk_3_0 :=
  xA0 (ok_bipush (xdd xB_3 dX1_bytes_0) rfl rfl (xrg rfl)) <|
  xA0 (ok_istore_n (xdd xB_3 dX1_bytes_2) rfl rfl) <|
  xA0 (ok_iload_n (xdd xB_3 dX1_bytes_3) rfl rfl) <|
  xAB (ok_if_lt (xdd xB_3 dX1_bytes_4) rfl rfl) <|
  xA0 (ok_aload_n (xdd xB_3 dX1_bytes_7) rfl rfl) <|
  xA1 (ok_getA (xdd xB_3 dX1_bytes_8) rfl (lk_f q400) rfl) <|
  xA0 (ok_aload_n (xdd xB_3 dX1_bytes_11) rfl rfl) <|
  xA1 (ok_getI (xdd xB_3 dX1_bytes_12) rfl (lk_f q401) (by decide)) <|
  xA0 (ok_iload_n (xdd xB_3 dX1_bytes_15) rfl rfl) <|
  xA0 (ok_iload_n (xdd xB_3 dX1_bytes_16) rfl rfl) <|
  xA1 (ok_ishr (xdd xB_3 dX1_bytes_17) rfl) <|
  xA0 (ok_i2b (xdd xB_3 dX1_bytes_18) rfl) <|
  xA1 (ok_bastore (xdd xB_3 dX1_bytes_19) rfl) <|
  xA0 (ok_aload_n (xdd xB_3 dX1_bytes_20) rfl rfl) <|
  xA0 (ok_dup (xdd xB_3 dX1_bytes_21) rfl) <|
  xA1 (ok_getI (xdd xB_3 dX1_bytes_22) rfl (lk_f q401) (by decide)) <|
  xA0 (ok_iconst (xdd xB_3 dX1_bytes_25) rfl rfl (xrg rfl)) <|
  xA1 (ok_iadd (xdd xB_3 dX1_bytes_26) rfl) <|
  xA1 (ok_putI (xdd xB_3 dX1_bytes_27) rfl (lk_f q401) rfl xfd_1 (Or.inl rfl)) <|
  xA1 (ok_iinc (xdd xB_3 dX1_bytes_30) rfl) <|
  xAe
theorem xe_3_1 {s0 : State} {A0 : Array Value} {D : va_G} {ta : Nat → ClassId} {l : Launch} : XAll s0 A0 D ta l 3 xk_3_1 :=
  xA0 (ok_goto (xdd xB_3 dX1_bytes_33) rfl) <|
  xAR (ok_vreturn (xdd xB_3 dX1_bytes_36) rfl) <|
  xAe
theorem xe_3 {s0 : State} {A0 : Array Value} {D : va_G} {ta : Nat → ClassId} {l : Launch} : XAllC s0 A0 D ta l 3 xk_3 := ⟨xe_3_0, xe_3_1, trivial⟩
theorem xe_4_0 {s0 : State} {A0 : Array Value} {D : va_G} {ta : Nat → ClassId} {l : Launch} : XAll s0 A0 D ta l 4 xk_4_0 :=
  xA0 (ok_aload_n (xdd xB_4 dX1_town_0) rfl rfl) <|
  xAK rfl (xC1 (ok_callV (xdd xB_4 dX1_town_1) rfl xq_0 rfl xp_5_0 q477 q479 qs2 q111 q480) xC0) <|
  xA0 (ok_iload_n (xdd xB_4 dX1_town_4) rfl rfl) <|
  xA0 (ok_iconst (xdd xB_4 dX1_town_5) rfl rfl (xrg rfl)) <|
  xA0 (ok_aload_n (xdd xB_4 dX1_town_6) rfl rfl) <|
  xA1 (ok_getI (xdd xB_4 dX1_town_7) rfl (lk_f q401) (by decide)) <|
  xAK rfl (xC1 (ok_callS (xdd xB_4 dX1_town_10) rfl xp_6_3 q481 q482 q111 q483) xC0) <|
  xAB (ok_if_ne (xdd xB_4 dX1_town_13) rfl rfl) <|
  xA0 (ok_aload_n (xdd xB_4 dX1_town_16) rfl rfl) <|
  xA0 (ok_iconst (xdd xB_4 dX1_town_17) rfl rfl (xrg rfl)) <|
  xAK rfl (xC1 (ok_callV (xdd xB_4 dX1_town_18) rfl xq_0 rfl xp_7_1 q484 q486 qs3 q111 q487) xC0) <|
  xAR (ok_ireturn (xdd xB_4 dX1_town_21) rfl) <|
  xA0 (ok_aload_n (xdd xB_4 dX1_town_22) rfl rfl) <|
  xA0 (ok_iconst (xdd xB_4 dX1_town_23) rfl rfl (xrg rfl)) <|
  xA1 (ok_putI (xdd xB_4 dX1_town_24) rfl (lk_f q401) rfl xfd_1 (Or.inl rfl)) <|
  xA0 (ok_aload_n (xdd xB_4 dX1_town_27) rfl rfl) <|
  xA0 (ok_iconst (xdd xB_4 dX1_town_28) rfl rfl (xrg rfl)) <|
  xA1 (ok_putI (xdd xB_4 dX1_town_29) rfl (lk_f q405) rfl xfd_5 (Or.inl rfl)) <|
  xAe
theorem xe_4_1 {s0 : State} {A0 : Array Value} {D : va_G} {ta : Nat → ClassId} {l : Launch} : XAll s0 A0 D ta l 4 xk_4_1 :=
  xA0 (ok_aload_n (xdd xB_4 dX1_town_32) rfl rfl) <|
  xA0 (ok_aload_n (xdd xB_4 dX1_town_33) rfl rfl) <|
  xA1 (ok_getA (xdd xB_4 dX1_town_34) rfl (lk_f q402) rfl) <|
  xA0 (ok_iload_n (xdd xB_4 dX1_town_37) rfl rfl) <|
  xAK rfl (xC1 (ok_callV (xdd xB_4 dX1_town_38) rfl xq_1 rfl xp_74_1 q488 q489 q490 q112 q491) xC0) <|
  xA1 (ok_putA (xdd xB_4 dX1_town_41) rfl (lk_f q403) rfl xfd_3 (Or.inl ⟨_, rfl⟩) (Or.inl rfl)) <|
  xA0 (ok_goto (xdd xB_4 dX1_town_44) rfl) <|
  xA0 (ok_astore_n (xdd xB_4 dX1_town_47) rfl rfl) <|
  xA0 (ok_aload_n (xdd xB_4 dX1_town_48) rfl rfl) <|
  xA0 (ok_aload_n (xdd xB_4 dX1_town_49) rfl rfl) <|
  xA1 (ok_getI (xdd xB_4 dX1_town_50) rfl (lk_f q208) (by decide)) <|
  xA1 (ok_putI (xdd xB_4 dX1_town_53) rfl (lk_f q405) rfl xfd_5 (Or.inl rfl)) <|
  xA0 (ok_aload_n (xdd xB_4 dX1_town_56) rfl rfl) <|
  xA0 (ok_aload_n (xdd xB_4 dX1_town_57) rfl rfl) <|
  xA1 (ok_getI (xdd xB_4 dX1_town_58) rfl (lk_f q210) (by decide)) <|
  xA1 (ok_putI (xdd xB_4 dX1_town_61) rfl (lk_f q406) rfl xfd_6 (Or.inl rfl)) <|
  xAe
theorem xe_4_2 {s0 : State} {A0 : Array Value} {D : va_G} {ta : Nat → ClassId} {l : Launch} : XAll s0 A0 D ta l 4 xk_4_2 :=
  xA0 (ok_aload_n (xdd xB_4 dX1_town_64) rfl rfl) <|
  xA0 (ok_iconst (xdd xB_4 dX1_town_65) rfl rfl (xrg rfl)) <|
  xAK rfl (xC1 (ok_callV (xdd xB_4 dX1_town_66) rfl xq_0 rfl xp_7_1 q484 q486 qs3 q111 q487) xC0) <|
  xAR (ok_ireturn (xdd xB_4 dX1_town_69) rfl) <|
  xA0 (ok_aload_n (xdd xB_4 dX1_town_70) rfl rfl) <|
  xA1 (ok_getA (xdd xB_4 dX1_town_71) rfl (lk_f q409) rfl) <|
  xA0 (ok_aload_n (xdd xB_4 dX1_town_74) rfl rfl) <|
  xA1 (ok_getA (xdd xB_4 dX1_town_75) rfl (lk_f q403) rfl) <|
  xAK rfl (xC1 (ok_callV (xdd xB_4 dX1_town_78) rfl xq_3 rfl xp_106_1 q949 q950 q951 q117 q952) xC0) <|
  xA0 (ok_aload_n (xdd xB_4 dX1_town_81) rfl rfl) <|
  xA0 (ok_iconst (xdd xB_4 dX1_town_82) rfl rfl (xrg rfl)) <|
  xA1 (ok_putI (xdd xB_4 dX1_town_83) rfl (lk_f q408) rfl xfd_8 (Or.inl rfl)) <|
  xA0 (ok_aload_n (xdd xB_4 dX1_town_86) rfl rfl) <|
  xA0 (ok_iconst (xdd xB_4 dX1_town_87) rfl rfl (xrg rfl)) <|
  xA1 (ok_putI (xdd xB_4 dX1_town_88) rfl (lk_f q407) rfl xfd_7 (Or.inl rfl)) <|
  xA0 (ok_aload_n (xdd xB_4 dX1_town_91) rfl rfl) <|
  xA1 (ok_getA (xdd xB_4 dX1_town_92) rfl (lk_f q403) rfl) <|
  xA1 (ok_getI (xdd xB_4 dX1_town_95) rfl (lk_f q528) (by decide)) <|
  xAe
theorem xe_4_3 {s0 : State} {A0 : Array Value} {D : va_G} {ta : Nat → ClassId} {l : Launch} : XAll s0 A0 D ta l 4 xk_4_3 :=
  xAR (ok_ireturn (xdd xB_4 dX1_town_98) rfl) <|
  xAe
theorem xe_4 {s0 : State} {A0 : Array Value} {D : va_G} {ta : Nat → ClassId} {l : Launch} : XAllC s0 A0 D ta l 4 xk_4 := ⟨xe_4_0, xe_4_1, xe_4_2, xe_4_3, trivial⟩
theorem xe_5_0 {s0 : State} {A0 : Array Value} {D : va_G} {ta : Nat → ClassId} {l : Launch} : XAll s0 A0 D ta l 5 xk_5_0 :=
  xA0 (ok_aload_n (xdd xB_5 dX1_anew_0) rfl rfl) <|
  xA0 (ok_iconst (xdd xB_5 dX1_anew_1) rfl rfl (xrg rfl)) <|
  xA1 (ok_putI (xdd xB_5 dX1_anew_2) rfl (lk_f q404) rfl xfd_4 (Or.inl rfl)) <|
  xA0 (ok_aload_n (xdd xB_5 dX1_anew_5) rfl rfl) <|
  xA0 (ok_iconst (xdd xB_5 dX1_anew_6) rfl rfl (xrg rfl)) <|
  xA1 (ok_putI (xdd xB_5 dX1_anew_7) rfl (lk_f q406) rfl xfd_6 (Or.inl rfl)) <|
  xAR (ok_vreturn (xdd xB_5 dX1_anew_10) rfl) <|
  xAe
theorem xe_5 {s0 : State} {A0 : Array Value} {D : va_G} {ta : Nat → ClassId} {l : Launch} : XAllC s0 A0 D ta l 5 xk_5 := ⟨xe_5_0, trivial⟩
theorem xe_6_0 {s0 : State} {A0 : Array Value} {D : va_G} {ta : Nat → ClassId} {l : Launch} : XAll s0 A0 D ta l 6 xk_6_0 :=
  xA0 (ok_iload_n (xdd xB_6 dX1_in_0) rfl rfl) <|
  xA0 (ok_iload_n (xdd xB_6 dX1_in_1) rfl rfl) <|
  xAB (ok_icmp_lt (xdd xB_6 dX1_in_2) rfl rfl) <|
  xA0 (ok_iload_n (xdd xB_6 dX1_in_5) rfl rfl) <|
  xA0 (ok_iload_n (xdd xB_6 dX1_in_6) rfl rfl) <|
  xAB (ok_icmp_gt (xdd xB_6 dX1_in_7) rfl rfl) <|
  xA0 (ok_iconst (xdd xB_6 dX1_in_10) rfl rfl (xrg rfl)) <|
  xA0 (ok_goto (xdd xB_6 dX1_in_11) rfl) <|
  xA0 (ok_iconst (xdd xB_6 dX1_in_14) rfl rfl (xrg rfl)) <|
  xAR (ok_zreturn (xdd xB_6 dX1_in_15) rfl) <|
  xAe
theorem xe_6 {s0 : State} {A0 : Array Value} {D : va_G} {ta : Nat → ClassId} {l : Launch} : XAllC s0 A0 D ta l 6 xk_6 := ⟨xe_6_0, trivial⟩
theorem xe_7_0 {s0 : State} {A0 : Array Value} {D : va_G} {ta : Nat → ClassId} {l : Launch} : XAll s0 A0 D ta l 7 xk_7_0 :=
  xA0 (ok_aload_n (xdd xB_7 dX1_no_0) rfl rfl) <|
  xA0 (ok_iload_n (xdd xB_7 dX1_no_1) rfl rfl) <|
  xA1 (ok_putI (xdd xB_7 dX1_no_2) rfl (lk_f q404) rfl xfd_4 (Or.inl rfl)) <|
  xA0 (ok_iconst (xdd xB_7 dX1_no_5) rfl rfl (xrg rfl)) <|
  xAR (ok_ireturn (xdd xB_7 dX1_no_6) rfl) <|
  xAe
theorem xe_7 {s0 : State} {A0 : Array Value} {D : va_G} {ta : Nat → ClassId} {l : Launch} : XAllC s0 A0 D ta l 7 xk_7 := ⟨xe_7_0, trivial⟩
theorem xe_8_0 {s0 : State} {A0 : Array Value} {D : va_G} {ta : Nat → ClassId} {l : Launch} : XAll s0 A0 D ta l 8 xk_8_0 :=
  xA0 (ok_aload_n (xdd xB_8 dX1_fault_0) rfl rfl) <|
  xA1 (ok_getI (xdd xB_8 dX1_fault_1) rfl (lk_f q405) (by decide)) <|
  xAR (ok_ireturn (xdd xB_8 dX1_fault_4) rfl) <|
  xAe
theorem xe_8 {s0 : State} {A0 : Array Value} {D : va_G} {ta : Nat → ClassId} {l : Launch} : XAllC s0 A0 D ta l 8 xk_8 := ⟨xe_8_0, trivial⟩
theorem xe_9_0 {s0 : State} {A0 : Array Value} {D : va_G} {ta : Nat → ClassId} {l : Launch} : XAll s0 A0 D ta l 9 xk_9_0 :=
  xA0 (ok_aload_n (xdd xB_9 dX1_where_0) rfl rfl) <|
  xA1 (ok_getI (xdd xB_9 dX1_where_1) rfl (lk_f q404) (by decide)) <|
  xA0 (ok_iconst (xdd xB_9 dX1_where_4) rfl rfl (xrg rfl)) <|
  xAB (ok_icmp_ne (xdd xB_9 dX1_where_5) rfl rfl) <|
  xA0 (ok_aload_n (xdd xB_9 dX1_where_8) rfl rfl) <|
  xA1 (ok_getI (xdd xB_9 dX1_where_9) rfl (lk_f q406) (by decide)) <|
  xA0 (ok_goto (xdd xB_9 dX1_where_12) rfl) <|
  xA0 (ok_iconst (xdd xB_9 dX1_where_15) rfl rfl (xrg rfl)) <|
  xAR (ok_ireturn (xdd xB_9 dX1_where_16) rfl) <|
  xAe
theorem xe_9 {s0 : State} {A0 : Array Value} {D : va_G} {ta : Nat → ClassId} {l : Launch} : XAllC s0 A0 D ta l 9 xk_9 := ⟨xe_9_0, trivial⟩
theorem xe_10_0 {s0 : State} {A0 : Array Value} {D : va_G} {ta : Nat → ClassId} {l : Launch} : XAll s0 A0 D ta l 10 xk_10_0 :=
  xA0 (ok_aload_n (xdd xB_10 dX1_house_0) rfl rfl) <|
  xAK rfl (xC1 (ok_callV (xdd xB_10 dX1_house_1) rfl xq_0 rfl xp_5_0 q477 q479 qs2 q111 q480) xC0) <|
  xA0 (ok_aload_n (xdd xB_10 dX1_house_4) rfl rfl) <|
  xA0 (ok_iload_n (xdd xB_10 dX1_house_5) rfl rfl) <|
  xAK rfl (xC1 (ok_callV (xdd xB_10 dX1_house_6) rfl xq_0 rfl xp_11_1 q965 q967 qs27 q111 q968) xC0) <|
  xAB (ok_if_ne (xdd xB_10 dX1_house_9) rfl rfl) <|
  xA0 (ok_aload_n (xdd xB_10 dX1_house_12) rfl rfl) <|
  xA0 (ok_iconst (xdd xB_10 dX1_house_13) rfl rfl (xrg rfl)) <|
  xAK rfl (xC1 (ok_callV (xdd xB_10 dX1_house_14) rfl xq_0 rfl xp_7_1 q484 q486 qs3 q111 q487) xC0) <|
  xAR (ok_ireturn (xdd xB_10 dX1_house_17) rfl) <|
  xA0 (ok_aload_n (xdd xB_10 dX1_house_18) rfl rfl) <|
  xA1 (ok_getA (xdd xB_10 dX1_house_19) rfl (lk_f q403) rfl) <|
  xA1 (ok_getA (xdd xB_10 dX1_house_22) rfl (lk_f q506) rfl) <|
  xA0 (ok_iload_n (xdd xB_10 dX1_house_25) rfl rfl) <|
  xA1 (ok_aaload (xdd xB_10 dX1_house_26) rfl) <|
  xA0 (ok_astore_n (xdd xB_10 dX1_house_27) rfl rfl) <|
  xA0 (ok_iload_n (xdd xB_10 dX1_house_28) rfl rfl) <|
  xA0 (ok_tsw (xdd xB_10 dX1_house_29) rfl rfl rfl rfl (np := 0)) <|
  xAe
theorem xe_10_1 {s0 : State} {A0 : Array Value} {D : va_G} {ta : Nat → ClassId} {l : Launch} : XAll s0 A0 D ta l 10 xk_10_1 :=
  xAe
theorem xe_10_2 {s0 : State} {A0 : Array Value} {D : va_G} {ta : Nat → ClassId} {l : Launch} : XAll s0 A0 D ta l 10 xk_10_2 :=
  xA0 (ok_aload_n (xdd xB_10 dX1_house_68) rfl rfl) <|
  xA1 (ok_getI (xdd xB_10 dX1_house_69) rfl (lk_f q799) (by decide)) <|
  xAR (ok_ireturn (xdd xB_10 dX1_house_72) rfl) <|
  xA0 (ok_aload_n (xdd xB_10 dX1_house_73) rfl rfl) <|
  xA1 (ok_getI (xdd xB_10 dX1_house_74) rfl (lk_f q801) (by decide)) <|
  xAR (ok_ireturn (xdd xB_10 dX1_house_77) rfl) <|
  xA0 (ok_aload_n (xdd xB_10 dX1_house_78) rfl rfl) <|
  xA1 (ok_getI (xdd xB_10 dX1_house_79) rfl (lk_f q803) (by decide)) <|
  xAR (ok_ireturn (xdd xB_10 dX1_house_82) rfl) <|
  xA0 (ok_aload_n (xdd xB_10 dX1_house_83) rfl rfl) <|
  xA1 (ok_getA (xdd xB_10 dX1_house_84) rfl (lk_f q409) rfl) <|
  xA1 (ok_getA (xdd xB_10 dX1_house_87) rfl (lk_f q273) rfl) <|
  xA0 (ok_iload_n (xdd xB_10 dX1_house_90) rfl rfl) <|
  xA1 (ok_iaload (xdd xB_10 dX1_house_91) rfl) <|
  xAR (ok_ireturn (xdd xB_10 dX1_house_92) rfl) <|
  xA0 (ok_aload_n (xdd xB_10 dX1_house_93) rfl rfl) <|
  xA1 (ok_getA (xdd xB_10 dX1_house_94) rfl (lk_f q409) rfl) <|
  xAe
theorem xe_10_3 {s0 : State} {A0 : Array Value} {D : va_G} {ta : Nat → ClassId} {l : Launch} : XAll s0 A0 D ta l 10 xk_10_3 :=
  xA0 (ok_iload_n (xdd xB_10 dX1_house_97) rfl rfl) <|
  xAK rfl (xC1 (ok_callV (xdd xB_10 dX1_house_98) rfl xq_3 rfl xp_107_1 q969 q970 q971 q117 q972) xC0) <|
  xAR (ok_ireturn (xdd xB_10 dX1_house_101) rfl) <|
  xA0 (ok_aload_n (xdd xB_10 dX1_house_102) rfl rfl) <|
  xA1 (ok_getA (xdd xB_10 dX1_house_103) rfl (lk_f q409) rfl) <|
  xA1 (ok_getI (xdd xB_10 dX1_house_106) rfl (lk_f q280) (by decide)) <|
  xA0 (ok_iload_n (xdd xB_10 dX1_house_109) rfl rfl) <|
  xAK rfl (xC1 (ok_callS (xdd xB_10 dX1_house_110) rfl xp_12_2 q973 q974 q111 q975) xC0) <|
  xAB (ok_if_eq (xdd xB_10 dX1_house_113) rfl rfl) <|
  xA0 (ok_iconst (xdd xB_10 dX1_house_116) rfl rfl (xrg rfl)) <|
  xA0 (ok_goto (xdd xB_10 dX1_house_117) rfl) <|
  xA0 (ok_iconst (xdd xB_10 dX1_house_120) rfl rfl (xrg rfl)) <|
  xAR (ok_ireturn (xdd xB_10 dX1_house_121) rfl) <|
  xA0 (ok_aload_n (xdd xB_10 dX1_house_122) rfl rfl) <|
  xA0 (ok_iconst (xdd xB_10 dX1_house_123) rfl rfl (xrg rfl)) <|
  xAK rfl (xC1 (ok_callV (xdd xB_10 dX1_house_124) rfl xq_0 rfl xp_7_1 q484 q486 qs3 q111 q487) xC0) <|
  xAR (ok_ireturn (xdd xB_10 dX1_house_127) rfl) <|
  xAe
theorem xe_10 {s0 : State} {A0 : Array Value} {D : va_G} {ta : Nat → ClassId} {l : Launch} : XAllC s0 A0 D ta l 10 xk_10 := ⟨xe_10_0, xe_10_1, xe_10_2, xe_10_3, trivial⟩
theorem xe_11_0 {s0 : State} {A0 : Array Value} {D : va_G} {ta : Nat → ClassId} {l : Launch} : XAll s0 A0 D ta l 11 xk_11_0 :=
  xA0 (ok_aload_n (xdd xB_11 dX1_isHouse_0) rfl rfl) <|
  xA1 (ok_getA (xdd xB_11 dX1_isHouse_1) rfl (lk_f q403) rfl) <|
  xAB (ok_ifnull (xdd xB_11 dX1_isHouse_4) rfl rfl) <|
  xA0 (ok_iload_n (xdd xB_11 dX1_isHouse_7) rfl rfl) <|
  xA0 (ok_iconst (xdd xB_11 dX1_isHouse_8) rfl rfl (xrg rfl)) <|
  xA0 (ok_aload_n (xdd xB_11 dX1_isHouse_9) rfl rfl) <|
  xA1 (ok_getA (xdd xB_11 dX1_isHouse_10) rfl (lk_f q403) rfl) <|
  xA1 (ok_getI (xdd xB_11 dX1_isHouse_13) rfl (lk_f q528) (by decide)) <|
  xA0 (ok_iconst (xdd xB_11 dX1_isHouse_16) rfl rfl (xrg rfl)) <|
  xA1 (ok_isub (xdd xB_11 dX1_isHouse_17) rfl) <|
  xAK rfl (xC1 (ok_callS (xdd xB_11 dX1_isHouse_18) rfl xp_6_3 q481 q482 q111 q483) xC0) <|
  xAB (ok_if_eq (xdd xB_11 dX1_isHouse_21) rfl rfl) <|
  xA0 (ok_iconst (xdd xB_11 dX1_isHouse_24) rfl rfl (xrg rfl)) <|
  xA0 (ok_goto (xdd xB_11 dX1_isHouse_25) rfl) <|
  xA0 (ok_iconst (xdd xB_11 dX1_isHouse_28) rfl rfl (xrg rfl)) <|
  xAR (ok_zreturn (xdd xB_11 dX1_isHouse_29) rfl) <|
  xAe
theorem xe_11 {s0 : State} {A0 : Array Value} {D : va_G} {ta : Nat → ClassId} {l : Launch} : XAllC s0 A0 D ta l 11 xk_11 := ⟨xe_11_0, trivial⟩
theorem xe_12_0 {s0 : State} {A0 : Array Value} {D : va_G} {ta : Nat → ClassId} {l : Launch} : XAll s0 A0 D ta l 12 xk_12_0 :=
  xA0 (ok_iload_n (xdd xB_12 dX1_has_0) rfl rfl) <|
  xA0 (ok_iload_n (xdd xB_12 dX1_has_1) rfl rfl) <|
  xA1 (ok_ishr (xdd xB_12 dX1_has_2) rfl) <|
  xA0 (ok_iconst (xdd xB_12 dX1_has_3) rfl rfl (xrg rfl)) <|
  xA0 (ok_iand (xdd xB_12 dX1_has_4) rfl) <|
  xA0 (ok_iconst (xdd xB_12 dX1_has_5) rfl rfl (xrg rfl)) <|
  xAB (ok_icmp_ne (xdd xB_12 dX1_has_6) rfl rfl) <|
  xA0 (ok_iconst (xdd xB_12 dX1_has_9) rfl rfl (xrg rfl)) <|
  xA0 (ok_goto (xdd xB_12 dX1_has_10) rfl) <|
  xA0 (ok_iconst (xdd xB_12 dX1_has_13) rfl rfl (xrg rfl)) <|
  xAR (ok_zreturn (xdd xB_12 dX1_has_14) rfl) <|
  xAe
theorem xe_12 {s0 : State} {A0 : Array Value} {D : va_G} {ta : Nat → ClassId} {l : Launch} : XAllC s0 A0 D ta l 12 xk_12 := ⟨xe_12_0, trivial⟩
theorem xe_13_0 {s0 : State} {A0 : Array Value} {D : va_G} {ta : Nat → ClassId} {l : Launch} : XAll s0 A0 D ta l 13 xk_13_0 :=
  xA0 (ok_aload_n (xdd xB_13 dX1_open_0) rfl rfl) <|
  xAK rfl (xC1 (ok_callV (xdd xB_13 dX1_open_1) rfl xq_0 rfl xp_5_0 q477 q479 qs2 q111 q480) xC0) <|
  xA0 (ok_aload_n (xdd xB_13 dX1_open_4) rfl rfl) <|
  xA0 (ok_aload_n (xdd xB_13 dX1_open_5) rfl rfl) <|
  xA0 (ok_iload_n (xdd xB_13 dX1_open_6) rfl rfl) <|
  xAK rfl (xC1 (ok_callV (xdd xB_13 dX1_open_7) rfl xq_0 rfl xp_11_1 q965 q967 qs27 q111 q968) xC0) <|
  xA0 (ok_iload_n (xdd xB_13 dX1_open_10) rfl rfl) <|
  xAK rfl (xC1 (ok_callV (xdd xB_13 dX1_open_11) rfl xq_0 rfl xp_14_2 q980 q982 qs28 q111 q983) xC0) <|
  xA0 (ok_istore_n (xdd xB_13 dX1_open_14) rfl rfl) <|
  xA0 (ok_iload_n (xdd xB_13 dX1_open_15) rfl rfl) <|
  xAB (ok_if_eq (xdd xB_13 dX1_open_16) rfl rfl) <|
  xA0 (ok_aload_n (xdd xB_13 dX1_open_19) rfl rfl) <|
  xA0 (ok_iload_n (xdd xB_13 dX1_open_20) rfl rfl) <|
  xAK rfl (xC1 (ok_callV (xdd xB_13 dX1_open_21) rfl xq_0 rfl xp_7_1 q484 q486 qs3 q111 q487) xC0) <|
  xA0 (ok_goto (xdd xB_13 dX1_open_24) rfl) <|
  xA0 (ok_aload_n (xdd xB_13 dX1_open_27) rfl rfl) <|
  xA1 (ok_getA (xdd xB_13 dX1_open_28) rfl (lk_f q409) rfl) <|
  xA0 (ok_iload_n (xdd xB_13 dX1_open_31) rfl rfl) <|
  xAe
theorem xe_13_1 {s0 : State} {A0 : Array Value} {D : va_G} {ta : Nat → ClassId} {l : Launch} : XAll s0 A0 D ta l 13 xk_13_1 :=
  xA0 (ok_iload_n (xdd xB_13 dX1_open_32) rfl rfl) <|
  xAK rfl (xC1 (ok_callV (xdd xB_13 dX1_open_33) rfl xq_3 rfl xp_108_2 q984 q985 q986 q117 q987) xC0) <|
  xAB (ok_if_eq (xdd xB_13 dX1_open_36) rfl rfl) <|
  xA0 (ok_iconst (xdd xB_13 dX1_open_39) rfl rfl (xrg rfl)) <|
  xA0 (ok_goto (xdd xB_13 dX1_open_40) rfl) <|
  xA0 (ok_iconst (xdd xB_13 dX1_open_43) rfl rfl (xrg rfl)) <|
  xAR (ok_ireturn (xdd xB_13 dX1_open_44) rfl) <|
  xAe
theorem xe_13 {s0 : State} {A0 : Array Value} {D : va_G} {ta : Nat → ClassId} {l : Launch} : XAllC s0 A0 D ta l 13 xk_13 := ⟨xe_13_0, xe_13_1, trivial⟩
theorem xe_14_0 {s0 : State} {A0 : Array Value} {D : va_G} {ta : Nat → ClassId} {l : Launch} : XAll s0 A0 D ta l 14 xk_14_0 :=
  xA0 (ok_iload_n (xdd xB_14 dX1_minuteWhy_0) rfl rfl) <|
  xAB (ok_if_ne (xdd xB_14 dX1_minuteWhy_1) rfl rfl) <|
  xA0 (ok_iconst (xdd xB_14 dX1_minuteWhy_4) rfl rfl (xrg rfl)) <|
  xA0 (ok_goto (xdd xB_14 dX1_minuteWhy_5) rfl) <|
  xA0 (ok_iload_n (xdd xB_14 dX1_minuteWhy_8) rfl rfl) <|
  xA0 (ok_iconst (xdd xB_14 dX1_minuteWhy_9) rfl rfl (xrg rfl)) <|
  xA0 (ok_sipush (xdd xB_14 dX1_minuteWhy_10) rfl rfl (xrg rfl)) <|
  xAK rfl (xC1 (ok_callS (xdd xB_14 dX1_minuteWhy_13) rfl xp_6_3 q481 q482 q111 q483) xC0) <|
  xAB (ok_if_eq (xdd xB_14 dX1_minuteWhy_16) rfl rfl) <|
  xA0 (ok_iconst (xdd xB_14 dX1_minuteWhy_19) rfl rfl (xrg rfl)) <|
  xA0 (ok_goto (xdd xB_14 dX1_minuteWhy_20) rfl) <|
  xA0 (ok_iconst (xdd xB_14 dX1_minuteWhy_23) rfl rfl (xrg rfl)) <|
  xAR (ok_ireturn (xdd xB_14 dX1_minuteWhy_24) rfl) <|
  xAe
theorem xe_14 {s0 : State} {A0 : Array Value} {D : va_G} {ta : Nat → ClassId} {l : Launch} : XAllC s0 A0 D ta l 14 xk_14 := ⟨xe_14_0, trivial⟩
theorem xe_15_0 {s0 : State} {A0 : Array Value} {D : va_G} {ta : Nat → ClassId} {l : Launch} : XAll s0 A0 D ta l 15 xk_15_0 :=
  xA0 (ok_aload_n (xdd xB_15 dX1_street_0) rfl rfl) <|
  xAK rfl (xC1 (ok_callV (xdd xB_15 dX1_street_1) rfl xq_0 rfl xp_5_0 q477 q479 qs2 q111 q480) xC0) <|
  xA0 (ok_aload_n (xdd xB_15 dX1_street_4) rfl rfl) <|
  xA0 (ok_iload_n (xdd xB_15 dX1_street_5) rfl rfl) <|
  xAK rfl (xC1 (ok_callV (xdd xB_15 dX1_street_6) rfl xq_0 rfl xp_11_1 q965 q967 qs27 q111 q968) xC0) <|
  xAB (ok_if_eq (xdd xB_15 dX1_street_9) rfl rfl) <|
  xA0 (ok_aload_n (xdd xB_15 dX1_street_12) rfl rfl) <|
  xA0 (ok_iload_n (xdd xB_15 dX1_street_13) rfl rfl) <|
  xAK rfl (xC1 (ok_callV (xdd xB_15 dX1_street_14) rfl xq_0 rfl xp_11_1 q965 q967 qs27 q111 q968) xC0) <|
  xAB (ok_if_eq (xdd xB_15 dX1_street_17) rfl rfl) <|
  xA0 (ok_iload_n (xdd xB_15 dX1_street_20) rfl rfl) <|
  xA0 (ok_iload_n (xdd xB_15 dX1_street_21) rfl rfl) <|
  xAB (ok_icmp_ne (xdd xB_15 dX1_street_22) rfl rfl) <|
  xA0 (ok_aload_n (xdd xB_15 dX1_street_25) rfl rfl) <|
  xA0 (ok_iconst (xdd xB_15 dX1_street_26) rfl rfl (xrg rfl)) <|
  xAK rfl (xC1 (ok_callV (xdd xB_15 dX1_street_27) rfl xq_0 rfl xp_7_1 q484 q486 qs3 q111 q487) xC0) <|
  xAR (ok_ireturn (xdd xB_15 dX1_street_30) rfl) <|
  xA0 (ok_aload_n (xdd xB_15 dX1_street_31) rfl rfl) <|
  xAe
theorem xe_15_1 {s0 : State} {A0 : Array Value} {D : va_G} {ta : Nat → ClassId} {l : Launch} : XAll s0 A0 D ta l 15 xk_15_1 :=
  xA1 (ok_getA (xdd xB_15 dX1_street_32) rfl (lk_f q403) rfl) <|
  xA0 (ok_iload_n (xdd xB_15 dX1_street_35) rfl rfl) <|
  xA0 (ok_iload_n (xdd xB_15 dX1_street_36) rfl rfl) <|
  xAK rfl (xC1 (ok_callV (xdd xB_15 dX1_street_37) rfl xq_10 rfl xp_258_2 q998 q877 q878 q125 q879) xC0) <|
  xAB (ok_if_ne (xdd xB_15 dX1_street_40) rfl rfl) <|
  xA0 (ok_bipush (xdd xB_15 dX1_street_43) rfl rfl (xrg rfl)) <|
  xA0 (ok_goto (xdd xB_15 dX1_street_45) rfl) <|
  xA0 (ok_aload_n (xdd xB_15 dX1_street_48) rfl rfl) <|
  xA1 (ok_getA (xdd xB_15 dX1_street_49) rfl (lk_f q403) rfl) <|
  xA0 (ok_iload_n (xdd xB_15 dX1_street_52) rfl rfl) <|
  xA0 (ok_iload_n (xdd xB_15 dX1_street_53) rfl rfl) <|
  xAK rfl (xC1 (ok_callV (xdd xB_15 dX1_street_54) rfl xq_10 rfl xp_258_2 q998 q877 q878 q125 q879) xC0) <|
  xAR (ok_ireturn (xdd xB_15 dX1_street_57) rfl) <|
  xAe
theorem xe_15 {s0 : State} {A0 : Array Value} {D : va_G} {ta : Nat → ClassId} {l : Launch} : XAllC s0 A0 D ta l 15 xk_15 := ⟨xe_15_0, xe_15_1, trivial⟩
theorem xe_16_0 {s0 : State} {A0 : Array Value} {D : va_G} {ta : Nat → ClassId} {l : Launch} : XAll s0 A0 D ta l 16 xk_16_0 :=
  xA0 (ok_aload_n (xdd xB_16 dX1_person_0) rfl rfl) <|
  xAK rfl (xC1 (ok_callV (xdd xB_16 dX1_person_1) rfl xq_0 rfl xp_5_0 q477 q479 qs2 q111 q480) xC0) <|
  xA0 (ok_aload_n (xdd xB_16 dX1_person_4) rfl rfl) <|
  xA0 (ok_iload_n (xdd xB_16 dX1_person_5) rfl rfl) <|
  xAK rfl (xC1 (ok_callV (xdd xB_16 dX1_person_6) rfl xq_0 rfl xp_17_1 q1003 q1005 qs29 q111 q1006) xC0) <|
  xAB (ok_if_ne (xdd xB_16 dX1_person_9) rfl rfl) <|
  xA0 (ok_aload_n (xdd xB_16 dX1_person_12) rfl rfl) <|
  xA0 (ok_iconst (xdd xB_16 dX1_person_13) rfl rfl (xrg rfl)) <|
  xAK rfl (xC1 (ok_callV (xdd xB_16 dX1_person_14) rfl xq_0 rfl xp_7_1 q484 q486 qs3 q111 q487) xC0) <|
  xAR (ok_ireturn (xdd xB_16 dX1_person_17) rfl) <|
  xA0 (ok_iload_n (xdd xB_16 dX1_person_18) rfl rfl) <|
  xA0 (ok_tsw (xdd xB_16 dX1_person_19) rfl rfl rfl rfl (np := 0)) <|
  xAe
theorem xe_16_1 {s0 : State} {A0 : Array Value} {D : va_G} {ta : Nat → ClassId} {l : Launch} : XAll s0 A0 D ta l 16 xk_16_1 :=
  xA0 (ok_aload_n (xdd xB_16 dX1_person_44) rfl rfl) <|
  xA1 (ok_getA (xdd xB_16 dX1_person_45) rfl (lk_f q403) rfl) <|
  xA1 (ok_getA (xdd xB_16 dX1_person_48) rfl (lk_f q510) rfl) <|
  xA0 (ok_iload_n (xdd xB_16 dX1_person_51) rfl rfl) <|
  xA1 (ok_aaload (xdd xB_16 dX1_person_52) rfl) <|
  xA1 (ok_getI (xdd xB_16 dX1_person_53) rfl (lk_f q891) (by decide)) <|
  xAR (ok_ireturn (xdd xB_16 dX1_person_56) rfl) <|
  xA0 (ok_aload_n (xdd xB_16 dX1_person_57) rfl rfl) <|
  xA1 (ok_getA (xdd xB_16 dX1_person_58) rfl (lk_f q409) rfl) <|
  xA1 (ok_getA (xdd xB_16 dX1_person_61) rfl (lk_f q275) rfl) <|
  xAe
theorem xe_16_2 {s0 : State} {A0 : Array Value} {D : va_G} {ta : Nat → ClassId} {l : Launch} : XAll s0 A0 D ta l 16 xk_16_2 :=
  xA0 (ok_iload_n (xdd xB_16 dX1_person_64) rfl rfl) <|
  xA1 (ok_iaload (xdd xB_16 dX1_person_65) rfl) <|
  xAR (ok_ireturn (xdd xB_16 dX1_person_66) rfl) <|
  xA0 (ok_aload_n (xdd xB_16 dX1_person_67) rfl rfl) <|
  xA1 (ok_getA (xdd xB_16 dX1_person_68) rfl (lk_f q409) rfl) <|
  xA1 (ok_getA (xdd xB_16 dX1_person_71) rfl (lk_f q277) rfl) <|
  xA0 (ok_iload_n (xdd xB_16 dX1_person_74) rfl rfl) <|
  xA1 (ok_iaload (xdd xB_16 dX1_person_75) rfl) <|
  xAR (ok_ireturn (xdd xB_16 dX1_person_76) rfl) <|
  xA0 (ok_aload_n (xdd xB_16 dX1_person_77) rfl rfl) <|
  xA0 (ok_iconst (xdd xB_16 dX1_person_78) rfl rfl (xrg rfl)) <|
  xAK rfl (xC1 (ok_callV (xdd xB_16 dX1_person_79) rfl xq_0 rfl xp_7_1 q484 q486 qs3 q111 q487) xC0) <|
  xAR (ok_ireturn (xdd xB_16 dX1_person_82) rfl) <|
  xAe
theorem xe_16 {s0 : State} {A0 : Array Value} {D : va_G} {ta : Nat → ClassId} {l : Launch} : XAllC s0 A0 D ta l 16 xk_16 := ⟨xe_16_0, xe_16_1, xe_16_2, trivial⟩
theorem xe_17_0 {s0 : State} {A0 : Array Value} {D : va_G} {ta : Nat → ClassId} {l : Launch} : XAll s0 A0 D ta l 17 xk_17_0 :=
  xA0 (ok_aload_n (xdd xB_17 dX1_isPerson_0) rfl rfl) <|
  xA1 (ok_getA (xdd xB_17 dX1_isPerson_1) rfl (lk_f q403) rfl) <|
  xAB (ok_ifnull (xdd xB_17 dX1_isPerson_4) rfl rfl) <|
  xA0 (ok_iload_n (xdd xB_17 dX1_isPerson_7) rfl rfl) <|
  xA0 (ok_iconst (xdd xB_17 dX1_isPerson_8) rfl rfl (xrg rfl)) <|
  xA0 (ok_aload_n (xdd xB_17 dX1_isPerson_9) rfl rfl) <|
  xA1 (ok_getA (xdd xB_17 dX1_isPerson_10) rfl (lk_f q403) rfl) <|
  xA1 (ok_getI (xdd xB_17 dX1_isPerson_13) rfl (lk_f q536) (by decide)) <|
  xA0 (ok_iconst (xdd xB_17 dX1_isPerson_16) rfl rfl (xrg rfl)) <|
  xA1 (ok_isub (xdd xB_17 dX1_isPerson_17) rfl) <|
  xAK rfl (xC1 (ok_callS (xdd xB_17 dX1_isPerson_18) rfl xp_6_3 q481 q482 q111 q483) xC0) <|
  xAB (ok_if_eq (xdd xB_17 dX1_isPerson_21) rfl rfl) <|
  xA0 (ok_iconst (xdd xB_17 dX1_isPerson_24) rfl rfl (xrg rfl)) <|
  xA0 (ok_goto (xdd xB_17 dX1_isPerson_25) rfl) <|
  xA0 (ok_iconst (xdd xB_17 dX1_isPerson_28) rfl rfl (xrg rfl)) <|
  xAR (ok_zreturn (xdd xB_17 dX1_isPerson_29) rfl) <|
  xAe
theorem xe_17 {s0 : State} {A0 : Array Value} {D : va_G} {ta : Nat → ClassId} {l : Launch} : XAllC s0 A0 D ta l 17 xk_17 := ⟨xe_17_0, trivial⟩
theorem xe_18_0 {s0 : State} {A0 : Array Value} {D : va_G} {ta : Nat → ClassId} {l : Launch} : XAll s0 A0 D ta l 18 xk_18_0 :=
  xA0 (ok_aload_n (xdd xB_18 dX1_candle_0) rfl rfl) <|
  xAK rfl (xC1 (ok_callV (xdd xB_18 dX1_candle_1) rfl xq_0 rfl xp_5_0 q477 q479 qs2 q111 q480) xC0) <|
  xA0 (ok_aload_n (xdd xB_18 dX1_candle_4) rfl rfl) <|
  xA0 (ok_iload_n (xdd xB_18 dX1_candle_5) rfl rfl) <|
  xAK rfl (xC1 (ok_callV (xdd xB_18 dX1_candle_6) rfl xq_0 rfl xp_11_1 q965 q967 qs27 q111 q968) xC0) <|
  xAB (ok_if_ne (xdd xB_18 dX1_candle_9) rfl rfl) <|
  xA0 (ok_aload_n (xdd xB_18 dX1_candle_12) rfl rfl) <|
  xA0 (ok_iconst (xdd xB_18 dX1_candle_13) rfl rfl (xrg rfl)) <|
  xAK rfl (xC1 (ok_callV (xdd xB_18 dX1_candle_14) rfl xq_0 rfl xp_7_1 q484 q486 qs3 q111 q487) xC0) <|
  xAR (ok_ireturn (xdd xB_18 dX1_candle_17) rfl) <|
  xA0 (ok_iconst (xdd xB_18 dX1_candle_18) rfl rfl (xrg rfl)) <|
  xA0 (ok_istore_n (xdd xB_18 dX1_candle_19) rfl rfl) <|
  xA0 (ok_iload_n (xdd xB_18 dX1_candle_20) rfl rfl) <|
  xA0 (ok_bipush (xdd xB_18 dX1_candle_21) rfl rfl (xrg rfl)) <|
  xAB (ok_icmp_gt (xdd xB_18 dX1_candle_23) rfl rfl) <|
  xA0 (ok_aload_n (xdd xB_18 dX1_candle_26) rfl rfl) <|
  xA0 (ok_iload_n (xdd xB_18 dX1_candle_27) rfl rfl) <|
  xA0 (ok_iload_n (xdd xB_18 dX1_candle_28) rfl rfl) <|
  xAK rfl (xC1 (ok_callV (xdd xB_18 dX1_candle_29) rfl xq_0 rfl xp_19_2 q1011 q1013 qs30 q111 q1014) xC0) <|
  xAe
theorem xe_18_1 {s0 : State} {A0 : Array Value} {D : va_G} {ta : Nat → ClassId} {l : Launch} : XAll s0 A0 D ta l 18 xk_18_1 :=
  xA0 (ok_iload_n (xdd xB_18 dX1_candle_32) rfl rfl) <|
  xAB (ok_icmp_ne (xdd xB_18 dX1_candle_33) rfl rfl) <|
  xA0 (ok_iload_n (xdd xB_18 dX1_candle_36) rfl rfl) <|
  xAR (ok_ireturn (xdd xB_18 dX1_candle_37) rfl) <|
  xA1 (ok_iinc (xdd xB_18 dX1_candle_38) rfl) <|
  xA0 (ok_goto (xdd xB_18 dX1_candle_41) rfl) <|
  xA0 (ok_bipush (xdd xB_18 dX1_candle_44) rfl rfl (xrg rfl)) <|
  xAR (ok_ireturn (xdd xB_18 dX1_candle_46) rfl) <|
  xAe
theorem xe_18 {s0 : State} {A0 : Array Value} {D : va_G} {ta : Nat → ClassId} {l : Launch} : XAllC s0 A0 D ta l 18 xk_18 := ⟨xe_18_0, xe_18_1, trivial⟩
theorem xe_19_0 {s0 : State} {A0 : Array Value} {D : va_G} {ta : Nat → ClassId} {l : Launch} : XAll s0 A0 D ta l 19 xk_19_0 :=
  xA0 (ok_iload_n (xdd xB_19 dX1_behind_0) rfl rfl) <|
  xA0 (ok_istore_n (xdd xB_19 dX1_behind_1) rfl rfl) <|
  xA0 (ok_iconst (xdd xB_19 dX1_behind_2) rfl rfl (xrg rfl)) <|
  xA0 (ok_istore (xdd xB_19 dX1_behind_3) rfl) <|
  xA0 (ok_iload (xdd xB_19 dX1_behind_5) rfl) <|
  xA0 (ok_iload_n (xdd xB_19 dX1_behind_7) rfl rfl) <|
  xAB (ok_icmp_ge (xdd xB_19 dX1_behind_8) rfl rfl) <|
  xA0 (ok_iload_n (xdd xB_19 dX1_behind_11) rfl rfl) <|
  xA0 (ok_bipush (xdd xB_19 dX1_behind_12) rfl rfl (xrg rfl)) <|
  xAB (ok_icmp_eq (xdd xB_19 dX1_behind_14) rfl rfl) <|
  xA0 (ok_aload_n (xdd xB_19 dX1_behind_17) rfl rfl) <|
  xA1 (ok_getA (xdd xB_19 dX1_behind_18) rfl (lk_f q409) rfl) <|
  xA1 (ok_getA (xdd xB_19 dX1_behind_21) rfl (lk_f q273) rfl) <|
  xA0 (ok_iload_n (xdd xB_19 dX1_behind_24) rfl rfl) <|
  xA1 (ok_iaload (xdd xB_19 dX1_behind_25) rfl) <|
  xA0 (ok_istore_n (xdd xB_19 dX1_behind_26) rfl rfl) <|
  xA1 (ok_iinc (xdd xB_19 dX1_behind_27) rfl) <|
  xA0 (ok_goto (xdd xB_19 dX1_behind_30) rfl) <|
  xAe
theorem xe_19_1 {s0 : State} {A0 : Array Value} {D : va_G} {ta : Nat → ClassId} {l : Launch} : XAll s0 A0 D ta l 19 xk_19_1 :=
  xA0 (ok_iload_n (xdd xB_19 dX1_behind_33) rfl rfl) <|
  xAR (ok_ireturn (xdd xB_19 dX1_behind_34) rfl) <|
  xAe
theorem xe_19 {s0 : State} {A0 : Array Value} {D : va_G} {ta : Nat → ClassId} {l : Launch} : XAllC s0 A0 D ta l 19 xk_19 := ⟨xe_19_0, xe_19_1, trivial⟩
theorem xe_20_0 {s0 : State} {A0 : Array Value} {D : va_G} {ta : Nat → ClassId} {l : Launch} : XAll s0 A0 D ta l 20 xk_20_0 :=
  xA0 (ok_aload_n (xdd xB_20 dX1_candleAt_0) rfl rfl) <|
  xAK rfl (xC1 (ok_callV (xdd xB_20 dX1_candleAt_1) rfl xq_0 rfl xp_5_0 q477 q479 qs2 q111 q480) xC0) <|
  xA0 (ok_aload_n (xdd xB_20 dX1_candleAt_4) rfl rfl) <|
  xA0 (ok_iload_n (xdd xB_20 dX1_candleAt_5) rfl rfl) <|
  xAK rfl (xC1 (ok_callV (xdd xB_20 dX1_candleAt_6) rfl xq_0 rfl xp_11_1 q965 q967 qs27 q111 q968) xC0) <|
  xAB (ok_if_ne (xdd xB_20 dX1_candleAt_9) rfl rfl) <|
  xA0 (ok_aload_n (xdd xB_20 dX1_candleAt_12) rfl rfl) <|
  xA0 (ok_iconst (xdd xB_20 dX1_candleAt_13) rfl rfl (xrg rfl)) <|
  xAK rfl (xC1 (ok_callV (xdd xB_20 dX1_candleAt_14) rfl xq_0 rfl xp_7_1 q484 q486 qs3 q111 q487) xC0) <|
  xAR (ok_ireturn (xdd xB_20 dX1_candleAt_17) rfl) <|
  xA0 (ok_iload_n (xdd xB_20 dX1_candleAt_18) rfl rfl) <|
  xA0 (ok_iconst (xdd xB_20 dX1_candleAt_19) rfl rfl (xrg rfl)) <|
  xA0 (ok_bipush (xdd xB_20 dX1_candleAt_20) rfl rfl (xrg rfl)) <|
  xAK rfl (xC1 (ok_callS (xdd xB_20 dX1_candleAt_22) rfl xp_6_3 q481 q482 q111 q483) xC0) <|
  xAB (ok_if_eq (xdd xB_20 dX1_candleAt_25) rfl rfl) <|
  xA0 (ok_aload_n (xdd xB_20 dX1_candleAt_28) rfl rfl) <|
  xA0 (ok_iload_n (xdd xB_20 dX1_candleAt_29) rfl rfl) <|
  xA0 (ok_iload_n (xdd xB_20 dX1_candleAt_30) rfl rfl) <|
  xAK rfl (xC1 (ok_callV (xdd xB_20 dX1_candleAt_31) rfl xq_0 rfl xp_19_2 q1011 q1013 qs30 q111 q1014) xC0) <|
  xAe
theorem xe_20_1 {s0 : State} {A0 : Array Value} {D : va_G} {ta : Nat → ClassId} {l : Launch} : XAll s0 A0 D ta l 20 xk_20_1 :=
  xA0 (ok_goto (xdd xB_20 dX1_candleAt_34) rfl) <|
  xA0 (ok_aload_n (xdd xB_20 dX1_candleAt_37) rfl rfl) <|
  xA0 (ok_iconst (xdd xB_20 dX1_candleAt_38) rfl rfl (xrg rfl)) <|
  xAK rfl (xC1 (ok_callV (xdd xB_20 dX1_candleAt_39) rfl xq_0 rfl xp_7_1 q484 q486 qs3 q111 q487) xC0) <|
  xAR (ok_ireturn (xdd xB_20 dX1_candleAt_42) rfl) <|
  xAe
theorem xe_20 {s0 : State} {A0 : Array Value} {D : va_G} {ta : Nat → ClassId} {l : Launch} : XAllC s0 A0 D ta l 20 xk_20 := ⟨xe_20_0, xe_20_1, trivial⟩
theorem xe_21_0 {s0 : State} {A0 : Array Value} {D : va_G} {ta : Nat → ClassId} {l : Launch} : XAll s0 A0 D ta l 21 xk_21_0 :=
  xA0 (ok_aload_n (xdd xB_21 dX1_mutual_0) rfl rfl) <|
  xAK rfl (xC1 (ok_callV (xdd xB_21 dX1_mutual_1) rfl xq_0 rfl xp_5_0 q477 q479 qs2 q111 q480) xC0) <|
  xA0 (ok_aload_n (xdd xB_21 dX1_mutual_4) rfl rfl) <|
  xA1 (ok_getA (xdd xB_21 dX1_mutual_5) rfl (lk_f q403) rfl) <|
  xAB (ok_ifnonnull (xdd xB_21 dX1_mutual_8) rfl rfl) <|
  xA0 (ok_aload_n (xdd xB_21 dX1_mutual_11) rfl rfl) <|
  xA0 (ok_iconst (xdd xB_21 dX1_mutual_12) rfl rfl (xrg rfl)) <|
  xAK rfl (xC1 (ok_callV (xdd xB_21 dX1_mutual_13) rfl xq_0 rfl xp_7_1 q484 q486 qs3 q111 q487) xC0) <|
  xA0 (ok_goto (xdd xB_21 dX1_mutual_16) rfl) <|
  xA0 (ok_aload_n (xdd xB_21 dX1_mutual_19) rfl rfl) <|
  xA1 (ok_getA (xdd xB_21 dX1_mutual_20) rfl (lk_f q409) rfl) <|
  xAK rfl (xC1 (ok_callV (xdd xB_21 dX1_mutual_23) rfl xq_3 rfl xp_109_0 q1023 q1024 q1025 q117 q1026) xC0) <|
  xAR (ok_ireturn (xdd xB_21 dX1_mutual_26) rfl) <|
  xAe
theorem xe_21 {s0 : State} {A0 : Array Value} {D : va_G} {ta : Nat → ClassId} {l : Launch} : XAllC s0 A0 D ta l 21 xk_21 := ⟨xe_21_0, trivial⟩
theorem xe_22_0 {s0 : State} {A0 : Array Value} {D : va_G} {ta : Nat → ClassId} {l : Launch} : XAll s0 A0 D ta l 22 xk_22_0 :=
  xA0 (ok_aload_n (xdd xB_22 dX1_judge_0) rfl rfl) <|
  xAK rfl (xC1 (ok_callV (xdd xB_22 dX1_judge_1) rfl xq_0 rfl xp_5_0 q477 q479 qs2 q111 q480) xC0) <|
  xA0 (ok_aload_n (xdd xB_22 dX1_judge_4) rfl rfl) <|
  xA1 (ok_getA (xdd xB_22 dX1_judge_5) rfl (lk_f q403) rfl) <|
  xAB (ok_ifnonnull (xdd xB_22 dX1_judge_8) rfl rfl) <|
  xA0 (ok_aload_n (xdd xB_22 dX1_judge_11) rfl rfl) <|
  xA0 (ok_iconst (xdd xB_22 dX1_judge_12) rfl rfl (xrg rfl)) <|
  xAK rfl (xC1 (ok_callV (xdd xB_22 dX1_judge_13) rfl xq_0 rfl xp_7_1 q484 q486 qs3 q111 q487) xC0) <|
  xAR (ok_ireturn (xdd xB_22 dX1_judge_16) rfl) <|
  xA0 (ok_iconst (xdd xB_22 dX1_judge_17) rfl rfl (xrg rfl)) <|
  xA0 (ok_istore_n (xdd xB_22 dX1_judge_18) rfl rfl) <|
  xA0 (ok_iconst (xdd xB_22 dX1_judge_19) rfl rfl (xrg rfl)) <|
  xA0 (ok_istore_n (xdd xB_22 dX1_judge_20) rfl rfl) <|
  xA0 (ok_iload_n (xdd xB_22 dX1_judge_21) rfl rfl) <|
  xA0 (ok_aload_n (xdd xB_22 dX1_judge_22) rfl rfl) <|
  xA1 (ok_getA (xdd xB_22 dX1_judge_23) rfl (lk_f q403) rfl) <|
  xAK rfl (xC1 (ok_callV (xdd xB_22 dX1_judge_26) rfl xq_10 rfl xp_259_0 q1035 q931 q932 q125 q933) xC0) <|
  xAB (ok_icmp_ge (xdd xB_22 dX1_judge_29) rfl rfl) <|
  xAe
theorem xe_22_1 {s0 : State} {A0 : Array Value} {D : va_G} {ta : Nat → ClassId} {l : Launch} : XAll s0 A0 D ta l 22 xk_22_1 :=
  xA0 (ok_aload_n (xdd xB_22 dX1_judge_32) rfl rfl) <|
  xA1 (ok_getA (xdd xB_22 dX1_judge_33) rfl (lk_f q403) rfl) <|
  xA1 (ok_getA (xdd xB_22 dX1_judge_36) rfl (lk_f q514) rfl) <|
  xA0 (ok_iload_n (xdd xB_22 dX1_judge_39) rfl rfl) <|
  xA1 (ok_aaload (xdd xB_22 dX1_judge_40) rfl) <|
  xA0 (ok_astore_n (xdd xB_22 dX1_judge_41) rfl rfl) <|
  xA0 (ok_aload_n (xdd xB_22 dX1_judge_42) rfl rfl) <|
  xA1 (ok_inst (xdd xB_22 dX1_judge_43) rfl xq_13 q1036 xno_Sign) <|
  xAB (ok_if_ne (xdd xB_22 dX1_judge_46) rfl rfl) <|
  xA0 (ok_goto (xdd xB_22 dX1_judge_49) rfl) <|
  xA0 (ok_aload_n (xdd xB_22 dX1_judge_52) rfl rfl) <|
  xA1 (ok_getA (xdd xB_22 dX1_judge_53) rfl (lk_f q409) rfl) <|
  xA1 (ok_getA (xdd xB_22 dX1_judge_56) rfl (lk_f q273) rfl) <|
  xA0 (ok_aload_n (xdd xB_22 dX1_judge_59) rfl rfl) <|
  xA1 (ok_getI (xdd xB_22 dX1_judge_60) rfl (lk_f q920) (by decide)) <|
  xA1 (ok_iaload (xdd xB_22 dX1_judge_63) rfl) <|
  xAe
theorem xe_22_2 {s0 : State} {A0 : Array Value} {D : va_G} {ta : Nat → ClassId} {l : Launch} : XAll s0 A0 D ta l 22 xk_22_2 :=
  xA0 (ok_istore (xdd xB_22 dX1_judge_64) rfl) <|
  xA0 (ok_iload (xdd xB_22 dX1_judge_66) rfl) <|
  xA0 (ok_bipush (xdd xB_22 dX1_judge_68) rfl rfl (xrg rfl)) <|
  xAB (ok_icmp_eq (xdd xB_22 dX1_judge_70) rfl rfl) <|
  xA0 (ok_aload_n (xdd xB_22 dX1_judge_73) rfl rfl) <|
  xA0 (ok_aload_n (xdd xB_22 dX1_judge_74) rfl rfl) <|
  xA1 (ok_getA (xdd xB_22 dX1_judge_75) rfl (lk_f q403) rfl) <|
  xA1 (ok_getA (xdd xB_22 dX1_judge_78) rfl (lk_f q506) rfl) <|
  xA0 (ok_iload (xdd xB_22 dX1_judge_81) rfl) <|
  xA1 (ok_aaload (xdd xB_22 dX1_judge_83) rfl) <|
  xAK rfl (xC1 (ok_callU (xdd xB_22 dX1_judge_84) rfl xq_13 ⟨by decide, by decide, by decide +kernel⟩ q1037 q1039 q1043 q1044 q135 q1045 q1038) (xC1 (ok_callU (xdd xB_22 dX1_judge_84) rfl xq_14 ⟨by decide, by decide, by decide +kernel⟩ q1037 q1039 q1040 q1041 q136 q1042 q1038) xC0)) <|
  xAB (ok_if_ne (xdd xB_22 dX1_judge_87) rfl rfl) <|
  xA0 (ok_iload_n (xdd xB_22 dX1_judge_90) rfl rfl) <|
  xAR (ok_ireturn (xdd xB_22 dX1_judge_91) rfl) <|
  xA1 (ok_iinc (xdd xB_22 dX1_judge_92) rfl) <|
  xA1 (ok_iinc (xdd xB_22 dX1_judge_95) rfl) <|
  xAe
theorem xe_22_3 {s0 : State} {A0 : Array Value} {D : va_G} {ta : Nat → ClassId} {l : Launch} : XAll s0 A0 D ta l 22 xk_22_3 :=
  xA0 (ok_goto (xdd xB_22 dX1_judge_98) rfl) <|
  xA0 (ok_bipush (xdd xB_22 dX1_judge_101) rfl rfl (xrg rfl)) <|
  xAR (ok_ireturn (xdd xB_22 dX1_judge_103) rfl) <|
  xAe
theorem xe_22 {s0 : State} {A0 : Array Value} {D : va_G} {ta : Nat → ClassId} {l : Launch} : XAllC s0 A0 D ta l 22 xk_22 := ⟨xe_22_0, xe_22_1, xe_22_2, xe_22_3, trivial⟩
theorem xe_23_0 {s0 : State} {A0 : Array Value} {D : va_G} {ta : Nat → ClassId} {l : Launch} : XAll s0 A0 D ta l 23 xk_23_0 :=
  xA0 (ok_aload_n (xdd xB_23 dX1_way_0) rfl rfl) <|
  xAK rfl (xC1 (ok_callV (xdd xB_23 dX1_way_1) rfl xq_0 rfl xp_5_0 q477 q479 qs2 q111 q480) xC0) <|
  xA0 (ok_aload_n (xdd xB_23 dX1_way_4) rfl rfl) <|
  xA0 (ok_iload_n (xdd xB_23 dX1_way_5) rfl rfl) <|
  xA0 (ok_iload_n (xdd xB_23 dX1_way_6) rfl rfl) <|
  xA0 (ok_iload_n (xdd xB_23 dX1_way_7) rfl rfl) <|
  xAK rfl (xC1 (ok_callV (xdd xB_23 dX1_way_8) rfl xq_0 rfl xp_24_3 q1051 q1053 qs31 q111 q1054) xC0) <|
  xA0 (ok_istore (xdd xB_23 dX1_way_11) rfl) <|
  xA0 (ok_iload (xdd xB_23 dX1_way_13) rfl) <|
  xAB (ok_if_eq (xdd xB_23 dX1_way_15) rfl rfl) <|
  xA0 (ok_aload_n (xdd xB_23 dX1_way_18) rfl rfl) <|
  xA0 (ok_iload (xdd xB_23 dX1_way_19) rfl) <|
  xAK rfl (xC1 (ok_callV (xdd xB_23 dX1_way_21) rfl xq_0 rfl xp_7_1 q484 q486 qs3 q111 q487) xC0) <|
  xA0 (ok_goto (xdd xB_23 dX1_way_24) rfl) <|
  xA0 (ok_aload_n (xdd xB_23 dX1_way_27) rfl rfl) <|
  xA0 (ok_aload_n (xdd xB_23 dX1_way_28) rfl rfl) <|
  xA1 (ok_getA (xdd xB_23 dX1_way_29) rfl (lk_f q414) rfl) <|
  xAe
theorem xe_23_1 {s0 : State} {A0 : Array Value} {D : va_G} {ta : Nat → ClassId} {l : Launch} : XAll s0 A0 D ta l 23 xk_23_1 :=
  xA0 (ok_iload_n (xdd xB_23 dX1_way_32) rfl rfl) <|
  xA0 (ok_iload_n (xdd xB_23 dX1_way_33) rfl rfl) <|
  xA0 (ok_iload_n (xdd xB_23 dX1_way_34) rfl rfl) <|
  xAK rfl (xC1 (ok_callV (xdd xB_23 dX1_way_35) rfl xq_0 rfl xp_25_4 q1055 q1057 qs32 q111 q1058) xC0) <|
  xAR (ok_ireturn (xdd xB_23 dX1_way_38) rfl) <|
  xAe
theorem xe_23 {s0 : State} {A0 : Array Value} {D : va_G} {ta : Nat → ClassId} {l : Launch} : XAllC s0 A0 D ta l 23 xk_23 := ⟨xe_23_0, xe_23_1, trivial⟩
theorem xe_24_0 {s0 : State} {A0 : Array Value} {D : va_G} {ta : Nat → ClassId} {l : Launch} : XAll s0 A0 D ta l 24 xk_24_0 :=
  xA0 (ok_aload_n (xdd xB_24 dX1_wayWhy_0) rfl rfl) <|
  xA0 (ok_aload_n (xdd xB_24 dX1_wayWhy_1) rfl rfl) <|
  xA0 (ok_iload_n (xdd xB_24 dX1_wayWhy_2) rfl rfl) <|
  xAK rfl (xC1 (ok_callV (xdd xB_24 dX1_wayWhy_3) rfl xq_0 rfl xp_11_1 q965 q967 qs27 q111 q968) xC0) <|
  xAB (ok_if_eq (xdd xB_24 dX1_wayWhy_6) rfl rfl) <|
  xA0 (ok_aload_n (xdd xB_24 dX1_wayWhy_9) rfl rfl) <|
  xA0 (ok_iload_n (xdd xB_24 dX1_wayWhy_10) rfl rfl) <|
  xAK rfl (xC1 (ok_callV (xdd xB_24 dX1_wayWhy_11) rfl xq_0 rfl xp_11_1 q965 q967 qs27 q111 q968) xC0) <|
  xAB (ok_if_eq (xdd xB_24 dX1_wayWhy_14) rfl rfl) <|
  xA0 (ok_iconst (xdd xB_24 dX1_wayWhy_17) rfl rfl (xrg rfl)) <|
  xA0 (ok_goto (xdd xB_24 dX1_wayWhy_18) rfl) <|
  xA0 (ok_iconst (xdd xB_24 dX1_wayWhy_21) rfl rfl (xrg rfl)) <|
  xA0 (ok_iload_n (xdd xB_24 dX1_wayWhy_22) rfl rfl) <|
  xAK rfl (xC1 (ok_callV (xdd xB_24 dX1_wayWhy_23) rfl xq_0 rfl xp_14_2 q980 q982 qs28 q111 q983) xC0) <|
  xAR (ok_ireturn (xdd xB_24 dX1_wayWhy_26) rfl) <|
  xAe
theorem xe_24 {s0 : State} {A0 : Array Value} {D : va_G} {ta : Nat → ClassId} {l : Launch} : XAllC s0 A0 D ta l 24 xk_24 := ⟨xe_24_0, trivial⟩
theorem xe_25_0 {s0 : State} {A0 : Array Value} {D : va_G} {ta : Nat → ClassId} {l : Launch} : XAll s0 A0 D ta l 25 xk_25_0 :=
  xA0 (ok_aload_n (xdd xB_25 dX1_minutesBy_0) rfl rfl) <|
  xA1 (ok_getA (xdd xB_25 dX1_minutesBy_1) rfl (lk_f q412) rfl) <|
  xA0 (ok_aload_n (xdd xB_25 dX1_minutesBy_4) rfl rfl) <|
  xA1 (ok_getA (xdd xB_25 dX1_minutesBy_5) rfl (lk_f q403) rfl) <|
  xA0 (ok_aload_n (xdd xB_25 dX1_minutesBy_8) rfl rfl) <|
  xA1 (ok_getA (xdd xB_25 dX1_minutesBy_9) rfl (lk_f q409) rfl) <|
  xA0 (ok_aload_n (xdd xB_25 dX1_minutesBy_12) rfl rfl) <|
  xA0 (ok_iload_n (xdd xB_25 dX1_minutesBy_13) rfl rfl) <|
  xA0 (ok_iload_n (xdd xB_25 dX1_minutesBy_14) rfl rfl) <|
  xA0 (ok_iload (xdd xB_25 dX1_minutesBy_15) rfl) <|
  xAK rfl (xC1 (ok_callV (xdd xB_25 dX1_minutesBy_17) rfl xq_4 rfl xp_117_6 q1059 q1060 q1061 q118 q1062) xC0) <|
  xA0 (ok_istore (xdd xB_25 dX1_minutesBy_20) rfl) <|
  xA0 (ok_iload (xdd xB_25 dX1_minutesBy_22) rfl) <|
  xA0 (ok_ldc (xdd xB_25 dX1_minutesBy_24) rfl q1092 rfl (xrg rfl)) <|
  xAB (ok_icmp_ne (xdd xB_25 dX1_minutesBy_26) rfl rfl) <|
  xA0 (ok_bipush (xdd xB_25 dX1_minutesBy_29) rfl rfl (xrg rfl)) <|
  xA0 (ok_goto (xdd xB_25 dX1_minutesBy_31) rfl) <|
  xAe
theorem xe_25_1 {s0 : State} {A0 : Array Value} {D : va_G} {ta : Nat → ClassId} {l : Launch} : XAll s0 A0 D ta l 25 xk_25_1 :=
  xA0 (ok_iload (xdd xB_25 dX1_minutesBy_34) rfl) <|
  xA0 (ok_iload (xdd xB_25 dX1_minutesBy_36) rfl) <|
  xA1 (ok_isub (xdd xB_25 dX1_minutesBy_38) rfl) <|
  xAR (ok_ireturn (xdd xB_25 dX1_minutesBy_39) rfl) <|
  xAe
theorem xe_25 {s0 : State} {A0 : Array Value} {D : va_G} {ta : Nat → ClassId} {l : Launch} : XAllC s0 A0 D ta l 25 xk_25 := ⟨xe_25_0, xe_25_1, trivial⟩
theorem xe_26_0 {s0 : State} {A0 : Array Value} {D : va_G} {ta : Nat → ClassId} {l : Launch} : XAll s0 A0 D ta l 26 xk_26_0 :=
  xA0 (ok_aload_n (xdd xB_26 dX1_wayAt_0) rfl rfl) <|
  xAK rfl (xC1 (ok_callV (xdd xB_26 dX1_wayAt_1) rfl xq_0 rfl xp_5_0 q477 q479 qs2 q111 q480) xC0) <|
  xA0 (ok_aload_n (xdd xB_26 dX1_wayAt_4) rfl rfl) <|
  xA0 (ok_iload_n (xdd xB_26 dX1_wayAt_5) rfl rfl) <|
  xA0 (ok_iload_n (xdd xB_26 dX1_wayAt_6) rfl rfl) <|
  xA0 (ok_iload_n (xdd xB_26 dX1_wayAt_7) rfl rfl) <|
  xAK rfl (xC1 (ok_callV (xdd xB_26 dX1_wayAt_8) rfl xq_0 rfl xp_24_3 q1051 q1053 qs31 q111 q1054) xC0) <|
  xA0 (ok_istore (xdd xB_26 dX1_wayAt_11) rfl) <|
  xA0 (ok_iload (xdd xB_26 dX1_wayAt_13) rfl) <|
  xAB (ok_if_eq (xdd xB_26 dX1_wayAt_15) rfl rfl) <|
  xA0 (ok_aload_n (xdd xB_26 dX1_wayAt_18) rfl rfl) <|
  xA0 (ok_iload (xdd xB_26 dX1_wayAt_19) rfl) <|
  xAK rfl (xC1 (ok_callV (xdd xB_26 dX1_wayAt_21) rfl xq_0 rfl xp_7_1 q484 q486 qs3 q111 q487) xC0) <|
  xAR (ok_ireturn (xdd xB_26 dX1_wayAt_24) rfl) <|
  xA0 (ok_aload_n (xdd xB_26 dX1_wayAt_25) rfl rfl) <|
  xA0 (ok_aload_n (xdd xB_26 dX1_wayAt_26) rfl rfl) <|
  xA1 (ok_getA (xdd xB_26 dX1_wayAt_27) rfl (lk_f q414) rfl) <|
  xA0 (ok_iload_n (xdd xB_26 dX1_wayAt_30) rfl rfl) <|
  xA0 (ok_iload_n (xdd xB_26 dX1_wayAt_31) rfl rfl) <|
  xAe
theorem xe_26_1 {s0 : State} {A0 : Array Value} {D : va_G} {ta : Nat → ClassId} {l : Launch} : XAll s0 A0 D ta l 26 xk_26_1 :=
  xA0 (ok_iload_n (xdd xB_26 dX1_wayAt_32) rfl rfl) <|
  xAK rfl (xC1 (ok_callV (xdd xB_26 dX1_wayAt_33) rfl xq_0 rfl xp_25_4 q1055 q1057 qs32 q111 q1058) xC0) <|
  xA0 (ok_pop (xdd xB_26 dX1_wayAt_36) rfl) <|
  xA0 (ok_iload (xdd xB_26 dX1_wayAt_37) rfl) <|
  xA0 (ok_iconst (xdd xB_26 dX1_wayAt_39) rfl rfl (xrg rfl)) <|
  xA0 (ok_aload_n (xdd xB_26 dX1_wayAt_40) rfl rfl) <|
  xA1 (ok_getA (xdd xB_26 dX1_wayAt_41) rfl (lk_f q412) rfl) <|
  xAK rfl (xC1 (ok_callV (xdd xB_26 dX1_wayAt_44) rfl xq_4 rfl xp_119_0 q1097 q1098 q1099 q118 q1100) xC0) <|
  xA0 (ok_iconst (xdd xB_26 dX1_wayAt_47) rfl rfl (xrg rfl)) <|
  xA1 (ok_isub (xdd xB_26 dX1_wayAt_48) rfl) <|
  xAK rfl (xC1 (ok_callS (xdd xB_26 dX1_wayAt_49) rfl xp_6_3 q481 q482 q111 q483) xC0) <|
  xAB (ok_if_eq (xdd xB_26 dX1_wayAt_52) rfl rfl) <|
  xA0 (ok_aload_n (xdd xB_26 dX1_wayAt_55) rfl rfl) <|
  xA1 (ok_getA (xdd xB_26 dX1_wayAt_56) rfl (lk_f q412) rfl) <|
  xA0 (ok_iload (xdd xB_26 dX1_wayAt_59) rfl) <|
  xAK rfl (xC1 (ok_callV (xdd xB_26 dX1_wayAt_61) rfl xq_4 rfl xp_120_1 q1101 q1102 q1103 q118 q1104) xC0) <|
  xAe
theorem xe_26_2 {s0 : State} {A0 : Array Value} {D : va_G} {ta : Nat → ClassId} {l : Launch} : XAll s0 A0 D ta l 26 xk_26_2 :=
  xA0 (ok_goto (xdd xB_26 dX1_wayAt_64) rfl) <|
  xA0 (ok_aload_n (xdd xB_26 dX1_wayAt_67) rfl rfl) <|
  xA0 (ok_iconst (xdd xB_26 dX1_wayAt_68) rfl rfl (xrg rfl)) <|
  xAK rfl (xC1 (ok_callV (xdd xB_26 dX1_wayAt_69) rfl xq_0 rfl xp_7_1 q484 q486 qs3 q111 q487) xC0) <|
  xAR (ok_ireturn (xdd xB_26 dX1_wayAt_72) rfl) <|
  xAe
theorem xe_26 {s0 : State} {A0 : Array Value} {D : va_G} {ta : Nat → ClassId} {l : Launch} : XAllC s0 A0 D ta l 26 xk_26 := ⟨xe_26_0, xe_26_1, xe_26_2, trivial⟩
theorem xe_27_0 {s0 : State} {A0 : Array Value} {D : va_G} {ta : Nat → ClassId} {l : Launch} : XAll s0 A0 D ta l 27 xk_27_0 :=
  xA0 (ok_aload_n (xdd xB_27 dX1_saves_0) rfl rfl) <|
  xAK rfl (xC1 (ok_callV (xdd xB_27 dX1_saves_1) rfl xq_0 rfl xp_5_0 q477 q479 qs2 q111 q480) xC0) <|
  xA0 (ok_aload_n (xdd xB_27 dX1_saves_4) rfl rfl) <|
  xA0 (ok_iload_n (xdd xB_27 dX1_saves_5) rfl rfl) <|
  xA0 (ok_iload_n (xdd xB_27 dX1_saves_6) rfl rfl) <|
  xA0 (ok_iload_n (xdd xB_27 dX1_saves_7) rfl rfl) <|
  xAK rfl (xC1 (ok_callV (xdd xB_27 dX1_saves_8) rfl xq_0 rfl xp_24_3 q1051 q1053 qs31 q111 q1054) xC0) <|
  xA0 (ok_istore (xdd xB_27 dX1_saves_11) rfl) <|
  xA0 (ok_iload (xdd xB_27 dX1_saves_13) rfl) <|
  xAB (ok_if_eq (xdd xB_27 dX1_saves_15) rfl rfl) <|
  xA0 (ok_aload_n (xdd xB_27 dX1_saves_18) rfl rfl) <|
  xA0 (ok_iload (xdd xB_27 dX1_saves_19) rfl) <|
  xAK rfl (xC1 (ok_callV (xdd xB_27 dX1_saves_21) rfl xq_0 rfl xp_7_1 q484 q486 qs3 q111 q487) xC0) <|
  xAR (ok_ireturn (xdd xB_27 dX1_saves_24) rfl) <|
  xA0 (ok_aload_n (xdd xB_27 dX1_saves_25) rfl rfl) <|
  xA0 (ok_aload_n (xdd xB_27 dX1_saves_26) rfl rfl) <|
  xA1 (ok_getA (xdd xB_27 dX1_saves_27) rfl (lk_f q413) rfl) <|
  xA0 (ok_iload_n (xdd xB_27 dX1_saves_30) rfl rfl) <|
  xA0 (ok_iload_n (xdd xB_27 dX1_saves_31) rfl rfl) <|
  xAe
theorem xe_27_1 {s0 : State} {A0 : Array Value} {D : va_G} {ta : Nat → ClassId} {l : Launch} : XAll s0 A0 D ta l 27 xk_27_1 :=
  xA0 (ok_iload_n (xdd xB_27 dX1_saves_32) rfl rfl) <|
  xAK rfl (xC1 (ok_callV (xdd xB_27 dX1_saves_33) rfl xq_0 rfl xp_25_4 q1055 q1057 qs32 q111 q1058) xC0) <|
  xA0 (ok_istore (xdd xB_27 dX1_saves_36) rfl) <|
  xA0 (ok_iload (xdd xB_27 dX1_saves_38) rfl) <|
  xA0 (ok_bipush (xdd xB_27 dX1_saves_40) rfl rfl (xrg rfl)) <|
  xAB (ok_icmp_ne (xdd xB_27 dX1_saves_42) rfl rfl) <|
  xA0 (ok_bipush (xdd xB_27 dX1_saves_45) rfl rfl (xrg rfl)) <|
  xA0 (ok_goto (xdd xB_27 dX1_saves_47) rfl) <|
  xA0 (ok_iload (xdd xB_27 dX1_saves_50) rfl) <|
  xA0 (ok_aload_n (xdd xB_27 dX1_saves_52) rfl rfl) <|
  xA0 (ok_aload_n (xdd xB_27 dX1_saves_53) rfl rfl) <|
  xA1 (ok_getA (xdd xB_27 dX1_saves_54) rfl (lk_f q414) rfl) <|
  xA0 (ok_iload_n (xdd xB_27 dX1_saves_57) rfl rfl) <|
  xA0 (ok_iload_n (xdd xB_27 dX1_saves_58) rfl rfl) <|
  xA0 (ok_iload_n (xdd xB_27 dX1_saves_59) rfl rfl) <|
  xAK rfl (xC1 (ok_callV (xdd xB_27 dX1_saves_60) rfl xq_0 rfl xp_25_4 q1055 q1057 qs32 q111 q1058) xC0) <|
  xA1 (ok_isub (xdd xB_27 dX1_saves_63) rfl) <|
  xAe
theorem xe_27_2 {s0 : State} {A0 : Array Value} {D : va_G} {ta : Nat → ClassId} {l : Launch} : XAll s0 A0 D ta l 27 xk_27_2 :=
  xAR (ok_ireturn (xdd xB_27 dX1_saves_64) rfl) <|
  xAe
theorem xe_27 {s0 : State} {A0 : Array Value} {D : va_G} {ta : Nat → ClassId} {l : Launch} : XAllC s0 A0 D ta l 27 xk_27 := ⟨xe_27_0, xe_27_1, xe_27_2, trivial⟩
theorem xe_28_0 {s0 : State} {A0 : Array Value} {D : va_G} {ta : Nat → ClassId} {l : Launch} : XAll s0 A0 D ta l 28 xk_28_0 :=
  xA0 (ok_aload_n (xdd xB_28 dX1_farthest_0) rfl rfl) <|
  xAK rfl (xC1 (ok_callV (xdd xB_28 dX1_farthest_1) rfl xq_0 rfl xp_5_0 q477 q479 qs2 q111 q480) xC0) <|
  xA0 (ok_aload_n (xdd xB_28 dX1_farthest_4) rfl rfl) <|
  xA0 (ok_aload_n (xdd xB_28 dX1_farthest_5) rfl rfl) <|
  xA0 (ok_iload_n (xdd xB_28 dX1_farthest_6) rfl rfl) <|
  xAK rfl (xC1 (ok_callV (xdd xB_28 dX1_farthest_7) rfl xq_0 rfl xp_11_1 q965 q967 qs27 q111 q968) xC0) <|
  xA0 (ok_iload_n (xdd xB_28 dX1_farthest_10) rfl rfl) <|
  xAK rfl (xC1 (ok_callV (xdd xB_28 dX1_farthest_11) rfl xq_0 rfl xp_14_2 q980 q982 qs28 q111 q983) xC0) <|
  xA0 (ok_istore_n (xdd xB_28 dX1_farthest_14) rfl rfl) <|
  xA0 (ok_iload_n (xdd xB_28 dX1_farthest_15) rfl rfl) <|
  xAB (ok_if_eq (xdd xB_28 dX1_farthest_16) rfl rfl) <|
  xA0 (ok_aload_n (xdd xB_28 dX1_farthest_19) rfl rfl) <|
  xA0 (ok_iload_n (xdd xB_28 dX1_farthest_20) rfl rfl) <|
  xAK rfl (xC1 (ok_callV (xdd xB_28 dX1_farthest_21) rfl xq_0 rfl xp_7_1 q484 q486 qs3 q111 q487) xC0) <|
  xAR (ok_ireturn (xdd xB_28 dX1_farthest_24) rfl) <|
  xA0 (ok_bipush (xdd xB_28 dX1_farthest_25) rfl rfl (xrg rfl)) <|
  xA0 (ok_istore (xdd xB_28 dX1_farthest_27) rfl) <|
  xA0 (ok_iconst (xdd xB_28 dX1_farthest_29) rfl rfl (xrg rfl)) <|
  xA0 (ok_istore (xdd xB_28 dX1_farthest_30) rfl) <|
  xAe
theorem xe_28_1 {s0 : State} {A0 : Array Value} {D : va_G} {ta : Nat → ClassId} {l : Launch} : XAll s0 A0 D ta l 28 xk_28_1 :=
  xA0 (ok_iconst (xdd xB_28 dX1_farthest_32) rfl rfl (xrg rfl)) <|
  xA0 (ok_istore (xdd xB_28 dX1_farthest_33) rfl) <|
  xA0 (ok_iload (xdd xB_28 dX1_farthest_35) rfl) <|
  xA0 (ok_aload_n (xdd xB_28 dX1_farthest_37) rfl rfl) <|
  xA1 (ok_getA (xdd xB_28 dX1_farthest_38) rfl (lk_f q403) rfl) <|
  xA1 (ok_getI (xdd xB_28 dX1_farthest_41) rfl (lk_f q528) (by decide)) <|
  xAB (ok_icmp_ge (xdd xB_28 dX1_farthest_44) rfl rfl) <|
  xA0 (ok_aload_n (xdd xB_28 dX1_farthest_47) rfl rfl) <|
  xA0 (ok_aload_n (xdd xB_28 dX1_farthest_48) rfl rfl) <|
  xA1 (ok_getA (xdd xB_28 dX1_farthest_49) rfl (lk_f q414) rfl) <|
  xA0 (ok_iload_n (xdd xB_28 dX1_farthest_52) rfl rfl) <|
  xA0 (ok_iload (xdd xB_28 dX1_farthest_53) rfl) <|
  xA0 (ok_iload_n (xdd xB_28 dX1_farthest_55) rfl rfl) <|
  xAK rfl (xC1 (ok_callV (xdd xB_28 dX1_farthest_56) rfl xq_0 rfl xp_25_4 q1055 q1057 qs32 q111 q1058) xC0) <|
  xA0 (ok_istore (xdd xB_28 dX1_farthest_59) rfl) <|
  xA0 (ok_iload (xdd xB_28 dX1_farthest_61) rfl) <|
  xA0 (ok_iload (xdd xB_28 dX1_farthest_63) rfl) <|
  xAe
theorem xe_28_2 {s0 : State} {A0 : Array Value} {D : va_G} {ta : Nat → ClassId} {l : Launch} : XAll s0 A0 D ta l 28 xk_28_2 :=
  xAB (ok_icmp_gt (xdd xB_28 dX1_farthest_65) rfl rfl) <|
  xA0 (ok_goto (xdd xB_28 dX1_farthest_68) rfl) <|
  xA0 (ok_iload (xdd xB_28 dX1_farthest_71) rfl) <|
  xA0 (ok_istore (xdd xB_28 dX1_farthest_73) rfl) <|
  xA0 (ok_iload (xdd xB_28 dX1_farthest_75) rfl) <|
  xA0 (ok_istore (xdd xB_28 dX1_farthest_77) rfl) <|
  xA1 (ok_iinc (xdd xB_28 dX1_farthest_79) rfl) <|
  xA0 (ok_goto (xdd xB_28 dX1_farthest_82) rfl) <|
  xA0 (ok_iload (xdd xB_28 dX1_farthest_85) rfl) <|
  xAR (ok_ireturn (xdd xB_28 dX1_farthest_87) rfl) <|
  xAe
theorem xe_28 {s0 : State} {A0 : Array Value} {D : va_G} {ta : Nat → ClassId} {l : Launch} : XAllC s0 A0 D ta l 28 xk_28 := ⟨xe_28_0, xe_28_1, xe_28_2, trivial⟩
theorem xe_29_0 {s0 : State} {A0 : Array Value} {D : va_G} {ta : Nat → ClassId} {l : Launch} : XAll s0 A0 D ta l 29 xk_29_0 :=
  xA0 (ok_aload_n (xdd xB_29 dX1_homeIn_0) rfl rfl) <|
  xAK rfl (xC1 (ok_callV (xdd xB_29 dX1_homeIn_1) rfl xq_0 rfl xp_5_0 q477 q479 qs2 q111 q480) xC0) <|
  xA0 (ok_aload_n (xdd xB_29 dX1_homeIn_4) rfl rfl) <|
  xA0 (ok_iload_n (xdd xB_29 dX1_homeIn_5) rfl rfl) <|
  xAK rfl (xC1 (ok_callV (xdd xB_29 dX1_homeIn_6) rfl xq_0 rfl xp_17_1 q1003 q1005 qs29 q111 q1006) xC0) <|
  xAB (ok_if_eq (xdd xB_29 dX1_homeIn_9) rfl rfl) <|
  xA0 (ok_aload_n (xdd xB_29 dX1_homeIn_12) rfl rfl) <|
  xA0 (ok_aload_n (xdd xB_29 dX1_homeIn_13) rfl rfl) <|
  xA1 (ok_getA (xdd xB_29 dX1_homeIn_14) rfl (lk_f q414) rfl) <|
  xA0 (ok_aload_n (xdd xB_29 dX1_homeIn_17) rfl rfl) <|
  xA1 (ok_getA (xdd xB_29 dX1_homeIn_18) rfl (lk_f q409) rfl) <|
  xA1 (ok_getA (xdd xB_29 dX1_homeIn_21) rfl (lk_f q275) rfl) <|
  xA0 (ok_iload_n (xdd xB_29 dX1_homeIn_24) rfl rfl) <|
  xA1 (ok_iaload (xdd xB_29 dX1_homeIn_25) rfl) <|
  xA0 (ok_aload_n (xdd xB_29 dX1_homeIn_26) rfl rfl) <|
  xA1 (ok_getA (xdd xB_29 dX1_homeIn_27) rfl (lk_f q403) rfl) <|
  xA1 (ok_getA (xdd xB_29 dX1_homeIn_30) rfl (lk_f q510) rfl) <|
  xAe
theorem xe_29_1 {s0 : State} {A0 : Array Value} {D : va_G} {ta : Nat → ClassId} {l : Launch} : XAll s0 A0 D ta l 29 xk_29_1 :=
  xA0 (ok_iload_n (xdd xB_29 dX1_homeIn_33) rfl rfl) <|
  xA1 (ok_aaload (xdd xB_29 dX1_homeIn_34) rfl) <|
  xA1 (ok_getI (xdd xB_29 dX1_homeIn_35) rfl (lk_f q891) (by decide)) <|
  xA0 (ok_aload_n (xdd xB_29 dX1_homeIn_38) rfl rfl) <|
  xA1 (ok_getA (xdd xB_29 dX1_homeIn_39) rfl (lk_f q409) rfl) <|
  xA1 (ok_getA (xdd xB_29 dX1_homeIn_42) rfl (lk_f q277) rfl) <|
  xA0 (ok_iload_n (xdd xB_29 dX1_homeIn_45) rfl rfl) <|
  xA1 (ok_iaload (xdd xB_29 dX1_homeIn_46) rfl) <|
  xAK rfl (xC1 (ok_callV (xdd xB_29 dX1_homeIn_47) rfl xq_0 rfl xp_25_4 q1055 q1057 qs32 q111 q1058) xC0) <|
  xA0 (ok_goto (xdd xB_29 dX1_homeIn_50) rfl) <|
  xA0 (ok_aload_n (xdd xB_29 dX1_homeIn_53) rfl rfl) <|
  xA0 (ok_iconst (xdd xB_29 dX1_homeIn_54) rfl rfl (xrg rfl)) <|
  xAK rfl (xC1 (ok_callV (xdd xB_29 dX1_homeIn_55) rfl xq_0 rfl xp_7_1 q484 q486 qs3 q111 q487) xC0) <|
  xAR (ok_ireturn (xdd xB_29 dX1_homeIn_58) rfl) <|
  xAe
theorem xe_29 {s0 : State} {A0 : Array Value} {D : va_G} {ta : Nat → ClassId} {l : Launch} : XAllC s0 A0 D ta l 29 xk_29 := ⟨xe_29_0, xe_29_1, trivial⟩
theorem xe_30_0 {s0 : State} {A0 : Array Value} {D : va_G} {ta : Nat → ClassId} {l : Launch} : XAll s0 A0 D ta l 30 xk_30_0 :=
  xA0 (ok_aload_n (xdd xB_30 dX1_fits_0) rfl rfl) <|
  xAK rfl (xC1 (ok_callV (xdd xB_30 dX1_fits_1) rfl xq_0 rfl xp_5_0 q477 q479 qs2 q111 q480) xC0) <|
  xA0 (ok_aload_n (xdd xB_30 dX1_fits_4) rfl rfl) <|
  xA1 (ok_getA (xdd xB_30 dX1_fits_5) rfl (lk_f q403) rfl) <|
  xAB (ok_ifnonnull (xdd xB_30 dX1_fits_8) rfl rfl) <|
  xA0 (ok_aload_n (xdd xB_30 dX1_fits_11) rfl rfl) <|
  xA0 (ok_iconst (xdd xB_30 dX1_fits_12) rfl rfl (xrg rfl)) <|
  xAK rfl (xC1 (ok_callV (xdd xB_30 dX1_fits_13) rfl xq_0 rfl xp_7_1 q484 q486 qs3 q111 q487) xC0) <|
  xAR (ok_ireturn (xdd xB_30 dX1_fits_16) rfl) <|
  xA0 (ok_aload_n (xdd xB_30 dX1_fits_17) rfl rfl) <|
  xA1 (ok_getA (xdd xB_30 dX1_fits_18) rfl (lk_f q415) rfl) <|
  xA0 (ok_aload_n (xdd xB_30 dX1_fits_21) rfl rfl) <|
  xA1 (ok_getA (xdd xB_30 dX1_fits_22) rfl (lk_f q403) rfl) <|
  xA0 (ok_aload_n (xdd xB_30 dX1_fits_25) rfl rfl) <|
  xA1 (ok_getA (xdd xB_30 dX1_fits_26) rfl (lk_f q409) rfl) <|
  xAK rfl (xC1 (ok_callV (xdd xB_30 dX1_fits_29) rfl xq_7 rfl xp_127_2 q1121 q1122 q1123 q122 q1124) xC0) <|
  xAe
theorem xe_30_1 {s0 : State} {A0 : Array Value} {D : va_G} {ta : Nat → ClassId} {l : Launch} : XAll s0 A0 D ta l 30 xk_30_1 :=
  xA0 (ok_aload_n (xdd xB_30 dX1_fits_32) rfl rfl) <|
  xA1 (ok_getA (xdd xB_30 dX1_fits_33) rfl (lk_f q415) rfl) <|
  xA1 (ok_getI (xdd xB_30 dX1_fits_36) rfl (lk_f q354) (by decide)) <|
  xAR (ok_ireturn (xdd xB_30 dX1_fits_39) rfl) <|
  xAe
theorem xe_30 {s0 : State} {A0 : Array Value} {D : va_G} {ta : Nat → ClassId} {l : Launch} : XAllC s0 A0 D ta l 30 xk_30 := ⟨xe_30_0, xe_30_1, trivial⟩
theorem xe_31_0 {s0 : State} {A0 : Array Value} {D : va_G} {ta : Nat → ClassId} {l : Launch} : XAll s0 A0 D ta l 31 xk_31_0 :=
  xA0 (ok_aload_n (xdd xB_31 dX1_could_0) rfl rfl) <|
  xAK rfl (xC1 (ok_callV (xdd xB_31 dX1_could_1) rfl xq_0 rfl xp_5_0 q477 q479 qs2 q111 q480) xC0) <|
  xA0 (ok_aload_n (xdd xB_31 dX1_could_4) rfl rfl) <|
  xA0 (ok_iload_n (xdd xB_31 dX1_could_5) rfl rfl) <|
  xAK rfl (xC1 (ok_callV (xdd xB_31 dX1_could_6) rfl xq_0 rfl xp_11_1 q965 q967 qs27 q111 q968) xC0) <|
  xAB (ok_if_ne (xdd xB_31 dX1_could_9) rfl rfl) <|
  xA0 (ok_aload_n (xdd xB_31 dX1_could_12) rfl rfl) <|
  xA0 (ok_iconst (xdd xB_31 dX1_could_13) rfl rfl (xrg rfl)) <|
  xAK rfl (xC1 (ok_callV (xdd xB_31 dX1_could_14) rfl xq_0 rfl xp_7_1 q484 q486 qs3 q111 q487) xC0) <|
  xAR (ok_ireturn (xdd xB_31 dX1_could_17) rfl) <|
  xA0 (ok_aload_n (xdd xB_31 dX1_could_18) rfl rfl) <|
  xA1 (ok_getA (xdd xB_31 dX1_could_19) rfl (lk_f q415) rfl) <|
  xA0 (ok_aload_n (xdd xB_31 dX1_could_22) rfl rfl) <|
  xA1 (ok_getA (xdd xB_31 dX1_could_23) rfl (lk_f q403) rfl) <|
  xA0 (ok_aload_n (xdd xB_31 dX1_could_26) rfl rfl) <|
  xA1 (ok_getA (xdd xB_31 dX1_could_27) rfl (lk_f q409) rfl) <|
  xAK rfl (xC1 (ok_callV (xdd xB_31 dX1_could_30) rfl xq_7 rfl xp_127_2 q1121 q1122 q1123 q122 q1124) xC0) <|
  xAe
theorem xe_31_1 {s0 : State} {A0 : Array Value} {D : va_G} {ta : Nat → ClassId} {l : Launch} : XAll s0 A0 D ta l 31 xk_31_1 :=
  xA0 (ok_aload_n (xdd xB_31 dX1_could_33) rfl rfl) <|
  xA1 (ok_getA (xdd xB_31 dX1_could_34) rfl (lk_f q415) rfl) <|
  xA0 (ok_iload_n (xdd xB_31 dX1_could_37) rfl rfl) <|
  xAK rfl (xC1 (ok_callV (xdd xB_31 dX1_could_38) rfl xq_7 rfl xp_130_1 q1145 q1146 q1147 q122 q1148) xC0) <|
  xAR (ok_ireturn (xdd xB_31 dX1_could_41) rfl) <|
  xAe
theorem xe_31 {s0 : State} {A0 : Array Value} {D : va_G} {ta : Nat → ClassId} {l : Launch} : XAllC s0 A0 D ta l 31 xk_31 := ⟨xe_31_0, xe_31_1, trivial⟩
theorem xe_32_0 {s0 : State} {A0 : Array Value} {D : va_G} {ta : Nat → ClassId} {l : Launch} : XAll s0 A0 D ta l 32 xk_32_0 :=
  xA0 (ok_aload_n (xdd xB_32 dX1_surely_0) rfl rfl) <|
  xAK rfl (xC1 (ok_callV (xdd xB_32 dX1_surely_1) rfl xq_0 rfl xp_5_0 q477 q479 qs2 q111 q480) xC0) <|
  xA0 (ok_aload_n (xdd xB_32 dX1_surely_4) rfl rfl) <|
  xA0 (ok_iload_n (xdd xB_32 dX1_surely_5) rfl rfl) <|
  xAK rfl (xC1 (ok_callV (xdd xB_32 dX1_surely_6) rfl xq_0 rfl xp_11_1 q965 q967 qs27 q111 q968) xC0) <|
  xAB (ok_if_ne (xdd xB_32 dX1_surely_9) rfl rfl) <|
  xA0 (ok_aload_n (xdd xB_32 dX1_surely_12) rfl rfl) <|
  xA0 (ok_iconst (xdd xB_32 dX1_surely_13) rfl rfl (xrg rfl)) <|
  xAK rfl (xC1 (ok_callV (xdd xB_32 dX1_surely_14) rfl xq_0 rfl xp_7_1 q484 q486 qs3 q111 q487) xC0) <|
  xAR (ok_ireturn (xdd xB_32 dX1_surely_17) rfl) <|
  xA0 (ok_aload_n (xdd xB_32 dX1_surely_18) rfl rfl) <|
  xA1 (ok_getA (xdd xB_32 dX1_surely_19) rfl (lk_f q415) rfl) <|
  xA0 (ok_aload_n (xdd xB_32 dX1_surely_22) rfl rfl) <|
  xA1 (ok_getA (xdd xB_32 dX1_surely_23) rfl (lk_f q403) rfl) <|
  xA0 (ok_aload_n (xdd xB_32 dX1_surely_26) rfl rfl) <|
  xA1 (ok_getA (xdd xB_32 dX1_surely_27) rfl (lk_f q409) rfl) <|
  xAK rfl (xC1 (ok_callV (xdd xB_32 dX1_surely_30) rfl xq_7 rfl xp_127_2 q1121 q1122 q1123 q122 q1124) xC0) <|
  xAe
theorem xe_32_1 {s0 : State} {A0 : Array Value} {D : va_G} {ta : Nat → ClassId} {l : Launch} : XAll s0 A0 D ta l 32 xk_32_1 :=
  xA0 (ok_aload_n (xdd xB_32 dX1_surely_33) rfl rfl) <|
  xA1 (ok_getA (xdd xB_32 dX1_surely_34) rfl (lk_f q415) rfl) <|
  xA0 (ok_iload_n (xdd xB_32 dX1_surely_37) rfl rfl) <|
  xAK rfl (xC1 (ok_callV (xdd xB_32 dX1_surely_38) rfl xq_7 rfl xp_131_1 q1153 q1154 q1155 q122 q1156) xC0) <|
  xAR (ok_ireturn (xdd xB_32 dX1_surely_41) rfl) <|
  xAe
theorem xe_32 {s0 : State} {A0 : Array Value} {D : va_G} {ta : Nat → ClassId} {l : Launch} : XAllC s0 A0 D ta l 32 xk_32 := ⟨xe_32_0, xe_32_1, trivial⟩
theorem xe_33_0 {s0 : State} {A0 : Array Value} {D : va_G} {ta : Nat → ClassId} {l : Launch} : XAll s0 A0 D ta l 33 xk_33_0 :=
  xA0 (ok_aload_n (xdd xB_33 dX1_firstOf_0) rfl rfl) <|
  xAK rfl (xC1 (ok_callV (xdd xB_33 dX1_firstOf_1) rfl xq_0 rfl xp_5_0 q477 q479 qs2 q111 q480) xC0) <|
  xA0 (ok_aload_n (xdd xB_33 dX1_firstOf_4) rfl rfl) <|
  xA0 (ok_iload_n (xdd xB_33 dX1_firstOf_5) rfl rfl) <|
  xAK rfl (xC1 (ok_callV (xdd xB_33 dX1_firstOf_6) rfl xq_0 rfl xp_11_1 q965 q967 qs27 q111 q968) xC0) <|
  xAB (ok_if_ne (xdd xB_33 dX1_firstOf_9) rfl rfl) <|
  xA0 (ok_aload_n (xdd xB_33 dX1_firstOf_12) rfl rfl) <|
  xA0 (ok_iconst (xdd xB_33 dX1_firstOf_13) rfl rfl (xrg rfl)) <|
  xAK rfl (xC1 (ok_callV (xdd xB_33 dX1_firstOf_14) rfl xq_0 rfl xp_7_1 q484 q486 qs3 q111 q487) xC0) <|
  xAR (ok_ireturn (xdd xB_33 dX1_firstOf_17) rfl) <|
  xA0 (ok_aload_n (xdd xB_33 dX1_firstOf_18) rfl rfl) <|
  xA1 (ok_getA (xdd xB_33 dX1_firstOf_19) rfl (lk_f q415) rfl) <|
  xA0 (ok_aload_n (xdd xB_33 dX1_firstOf_22) rfl rfl) <|
  xA1 (ok_getA (xdd xB_33 dX1_firstOf_23) rfl (lk_f q403) rfl) <|
  xA0 (ok_aload_n (xdd xB_33 dX1_firstOf_26) rfl rfl) <|
  xA1 (ok_getA (xdd xB_33 dX1_firstOf_27) rfl (lk_f q409) rfl) <|
  xAK rfl (xC1 (ok_callV (xdd xB_33 dX1_firstOf_30) rfl xq_7 rfl xp_127_2 q1121 q1122 q1123 q122 q1124) xC0) <|
  xAe
theorem xe_33_1 {s0 : State} {A0 : Array Value} {D : va_G} {ta : Nat → ClassId} {l : Launch} : XAll s0 A0 D ta l 33 xk_33_1 :=
  xA0 (ok_aload_n (xdd xB_33 dX1_firstOf_33) rfl rfl) <|
  xA1 (ok_getA (xdd xB_33 dX1_firstOf_34) rfl (lk_f q415) rfl) <|
  xA0 (ok_iload_n (xdd xB_33 dX1_firstOf_37) rfl rfl) <|
  xAK rfl (xC1 (ok_callV (xdd xB_33 dX1_firstOf_38) rfl xq_7 rfl xp_132_1 q1161 q1162 q1163 q122 q1164) xC0) <|
  xAR (ok_ireturn (xdd xB_33 dX1_firstOf_41) rfl) <|
  xAe
theorem xe_33 {s0 : State} {A0 : Array Value} {D : va_G} {ta : Nat → ClassId} {l : Launch} : XAllC s0 A0 D ta l 33 xk_33 := ⟨xe_33_0, xe_33_1, trivial⟩
theorem xe_34_0 {s0 : State} {A0 : Array Value} {D : va_G} {ta : Nat → ClassId} {l : Launch} : XAll s0 A0 D ta l 34 xk_34_0 :=
  xA0 (ok_aload_n (xdd xB_34 dX1_ask_0) rfl rfl) <|
  xAK rfl (xC1 (ok_callV (xdd xB_34 dX1_ask_1) rfl xq_0 rfl xp_5_0 q477 q479 qs2 q111 q480) xC0) <|
  xA0 (ok_aload_n (xdd xB_34 dX1_ask_4) rfl rfl) <|
  xA1 (ok_getA (xdd xB_34 dX1_ask_5) rfl (lk_f q403) rfl) <|
  xAB (ok_ifnonnull (xdd xB_34 dX1_ask_8) rfl rfl) <|
  xA0 (ok_aload_n (xdd xB_34 dX1_ask_11) rfl rfl) <|
  xA0 (ok_iconst (xdd xB_34 dX1_ask_12) rfl rfl (xrg rfl)) <|
  xAK rfl (xC1 (ok_callV (xdd xB_34 dX1_ask_13) rfl xq_0 rfl xp_7_1 q484 q486 qs3 q111 q487) xC0) <|
  xA0 (ok_goto (xdd xB_34 dX1_ask_16) rfl) <|
  xA0 (ok_aload_n (xdd xB_34 dX1_ask_19) rfl rfl) <|
  xAK rfl (xC1 (ok_callV (xdd xB_34 dX1_ask_20) rfl xq_0 rfl xp_35_0 q1169 q1171 qs36 q111 q1172) xC0) <|
  xAR (ok_ireturn (xdd xB_34 dX1_ask_23) rfl) <|
  xAe
theorem xe_34 {s0 : State} {A0 : Array Value} {D : va_G} {ta : Nat → ClassId} {l : Launch} : XAllC s0 A0 D ta l 34 xk_34 := ⟨xe_34_0, trivial⟩
theorem xe_35_0 {s0 : State} {A0 : Array Value} {D : va_G} {ta : Nat → ClassId} {l : Launch} : XAll s0 A0 D ta l 35 xk_35_0 :=
  xA0 (ok_aload_n (xdd xB_35 dX1_askOf_0) rfl rfl) <|
  xA1 (ok_getA (xdd xB_35 dX1_askOf_1) rfl (lk_f q415) rfl) <|
  xA0 (ok_aload_n (xdd xB_35 dX1_askOf_4) rfl rfl) <|
  xA1 (ok_getA (xdd xB_35 dX1_askOf_5) rfl (lk_f q403) rfl) <|
  xA0 (ok_aload_n (xdd xB_35 dX1_askOf_8) rfl rfl) <|
  xA1 (ok_getA (xdd xB_35 dX1_askOf_9) rfl (lk_f q409) rfl) <|
  xAK rfl (xC1 (ok_callV (xdd xB_35 dX1_askOf_12) rfl xq_7 rfl xp_127_2 q1121 q1122 q1123 q122 q1124) xC0) <|
  xA0 (ok_bipush (xdd xB_35 dX1_askOf_15) rfl rfl (xrg rfl)) <|
  xA0 (ok_istore_n (xdd xB_35 dX1_askOf_17) rfl rfl) <|
  xA0 (ok_iconst (xdd xB_35 dX1_askOf_18) rfl rfl (xrg rfl)) <|
  xA0 (ok_istore_n (xdd xB_35 dX1_askOf_19) rfl rfl) <|
  xA0 (ok_iload_n (xdd xB_35 dX1_askOf_20) rfl rfl) <|
  xA0 (ok_aload_n (xdd xB_35 dX1_askOf_21) rfl rfl) <|
  xA1 (ok_getA (xdd xB_35 dX1_askOf_22) rfl (lk_f q403) rfl) <|
  xA1 (ok_getI (xdd xB_35 dX1_askOf_25) rfl (lk_f q528) (by decide)) <|
  xAB (ok_icmp_ge (xdd xB_35 dX1_askOf_28) rfl rfl) <|
  xA0 (ok_aload_n (xdd xB_35 dX1_askOf_31) rfl rfl) <|
  xAe
theorem xe_35_1 {s0 : State} {A0 : Array Value} {D : va_G} {ta : Nat → ClassId} {l : Launch} : XAll s0 A0 D ta l 35 xk_35_1 :=
  xA1 (ok_getA (xdd xB_35 dX1_askOf_32) rfl (lk_f q415) rfl) <|
  xA1 (ok_getI (xdd xB_35 dX1_askOf_35) rfl (lk_f q354) (by decide)) <|
  xAB (ok_if_le (xdd xB_35 dX1_askOf_38) rfl rfl) <|
  xA0 (ok_aload_n (xdd xB_35 dX1_askOf_41) rfl rfl) <|
  xA1 (ok_getA (xdd xB_35 dX1_askOf_42) rfl (lk_f q409) rfl) <|
  xA1 (ok_getA (xdd xB_35 dX1_askOf_45) rfl (lk_f q273) rfl) <|
  xA0 (ok_iload_n (xdd xB_35 dX1_askOf_48) rfl rfl) <|
  xA1 (ok_iaload (xdd xB_35 dX1_askOf_49) rfl) <|
  xA0 (ok_bipush (xdd xB_35 dX1_askOf_50) rfl rfl (xrg rfl)) <|
  xAB (ok_icmp_ne (xdd xB_35 dX1_askOf_52) rfl rfl) <|
  xA0 (ok_iload_n (xdd xB_35 dX1_askOf_55) rfl rfl) <|
  xA0 (ok_bipush (xdd xB_35 dX1_askOf_56) rfl rfl (xrg rfl)) <|
  xAB (ok_icmp_eq (xdd xB_35 dX1_askOf_58) rfl rfl) <|
  xA0 (ok_aload_n (xdd xB_35 dX1_askOf_61) rfl rfl) <|
  xA1 (ok_getA (xdd xB_35 dX1_askOf_62) rfl (lk_f q415) rfl) <|
  xAe
theorem xe_35_2 {s0 : State} {A0 : Array Value} {D : va_G} {ta : Nat → ClassId} {l : Launch} : XAll s0 A0 D ta l 35 xk_35_2 :=
  xA0 (ok_iload_n (xdd xB_35 dX1_askOf_65) rfl rfl) <|
  xAK rfl (xC1 (ok_callV (xdd xB_35 dX1_askOf_66) rfl xq_7 rfl xp_133_1 q1173 q1174 q1175 q122 q1176) xC0) <|
  xA0 (ok_aload_n (xdd xB_35 dX1_askOf_69) rfl rfl) <|
  xA1 (ok_getA (xdd xB_35 dX1_askOf_70) rfl (lk_f q415) rfl) <|
  xA0 (ok_iload_n (xdd xB_35 dX1_askOf_73) rfl rfl) <|
  xAK rfl (xC1 (ok_callV (xdd xB_35 dX1_askOf_74) rfl xq_7 rfl xp_133_1 q1173 q1174 q1175 q122 q1176) xC0) <|
  xAB (ok_icmp_ge (xdd xB_35 dX1_askOf_77) rfl rfl) <|
  xA0 (ok_iload_n (xdd xB_35 dX1_askOf_80) rfl rfl) <|
  xA0 (ok_istore_n (xdd xB_35 dX1_askOf_81) rfl rfl) <|
  xA1 (ok_iinc (xdd xB_35 dX1_askOf_82) rfl) <|
  xA0 (ok_goto (xdd xB_35 dX1_askOf_85) rfl) <|
  xA0 (ok_iload_n (xdd xB_35 dX1_askOf_88) rfl rfl) <|
  xAR (ok_ireturn (xdd xB_35 dX1_askOf_89) rfl) <|
  xAe
theorem xe_35 {s0 : State} {A0 : Array Value} {D : va_G} {ta : Nat → ClassId} {l : Launch} : XAllC s0 A0 D ta l 35 xk_35 := ⟨xe_35_0, xe_35_1, xe_35_2, trivial⟩
theorem xe_36_0 {s0 : State} {A0 : Array Value} {D : va_G} {ta : Nat → ClassId} {l : Launch} : XAll s0 A0 D ta l 36 xk_36_0 :=
  xA0 (ok_aload_n (xdd xB_36 dX1_askLeaves_0) rfl rfl) <|
  xAK rfl (xC1 (ok_callV (xdd xB_36 dX1_askLeaves_1) rfl xq_0 rfl xp_5_0 q477 q479 qs2 q111 q480) xC0) <|
  xA0 (ok_aload_n (xdd xB_36 dX1_askLeaves_4) rfl rfl) <|
  xA1 (ok_getA (xdd xB_36 dX1_askLeaves_5) rfl (lk_f q403) rfl) <|
  xAB (ok_ifnonnull (xdd xB_36 dX1_askLeaves_8) rfl rfl) <|
  xA0 (ok_aload_n (xdd xB_36 dX1_askLeaves_11) rfl rfl) <|
  xA0 (ok_iconst (xdd xB_36 dX1_askLeaves_12) rfl rfl (xrg rfl)) <|
  xAK rfl (xC1 (ok_callV (xdd xB_36 dX1_askLeaves_13) rfl xq_0 rfl xp_7_1 q484 q486 qs3 q111 q487) xC0) <|
  xAR (ok_ireturn (xdd xB_36 dX1_askLeaves_16) rfl) <|
  xA0 (ok_aload_n (xdd xB_36 dX1_askLeaves_17) rfl rfl) <|
  xAK rfl (xC1 (ok_callV (xdd xB_36 dX1_askLeaves_18) rfl xq_0 rfl xp_35_0 q1169 q1171 qs36 q111 q1172) xC0) <|
  xA0 (ok_istore_n (xdd xB_36 dX1_askLeaves_21) rfl rfl) <|
  xA0 (ok_iload_n (xdd xB_36 dX1_askLeaves_22) rfl rfl) <|
  xA0 (ok_bipush (xdd xB_36 dX1_askLeaves_23) rfl rfl (xrg rfl)) <|
  xAB (ok_icmp_ne (xdd xB_36 dX1_askLeaves_25) rfl rfl) <|
  xA0 (ok_bipush (xdd xB_36 dX1_askLeaves_28) rfl rfl (xrg rfl)) <|
  xA0 (ok_goto (xdd xB_36 dX1_askLeaves_30) rfl) <|
  xAe
theorem xe_36_1 {s0 : State} {A0 : Array Value} {D : va_G} {ta : Nat → ClassId} {l : Launch} : XAll s0 A0 D ta l 36 xk_36_1 :=
  xA0 (ok_aload_n (xdd xB_36 dX1_askLeaves_33) rfl rfl) <|
  xA1 (ok_getA (xdd xB_36 dX1_askLeaves_34) rfl (lk_f q415) rfl) <|
  xA0 (ok_iload_n (xdd xB_36 dX1_askLeaves_37) rfl rfl) <|
  xAK rfl (xC1 (ok_callV (xdd xB_36 dX1_askLeaves_38) rfl xq_7 rfl xp_133_1 q1173 q1174 q1175 q122 q1176) xC0) <|
  xAR (ok_ireturn (xdd xB_36 dX1_askLeaves_41) rfl) <|
  xAe
theorem xe_36 {s0 : State} {A0 : Array Value} {D : va_G} {ta : Nat → ClassId} {l : Launch} : XAllC s0 A0 D ta l 36 xk_36 := ⟨xe_36_0, xe_36_1, trivial⟩
theorem xe_37_0 {s0 : State} {A0 : Array Value} {D : va_G} {ta : Nat → ClassId} {l : Launch} : XAll s0 A0 D ta l 37 xk_37_0 :=
  xA0 (ok_aload_n (xdd xB_37 dX1_owes_0) rfl rfl) <|
  xAK rfl (xC1 (ok_callV (xdd xB_37 dX1_owes_1) rfl xq_0 rfl xp_5_0 q477 q479 qs2 q111 q480) xC0) <|
  xA0 (ok_aload_n (xdd xB_37 dX1_owes_4) rfl rfl) <|
  xA0 (ok_iload_n (xdd xB_37 dX1_owes_5) rfl rfl) <|
  xAK rfl (xC1 (ok_callV (xdd xB_37 dX1_owes_6) rfl xq_0 rfl xp_11_1 q965 q967 qs27 q111 q968) xC0) <|
  xAB (ok_if_ne (xdd xB_37 dX1_owes_9) rfl rfl) <|
  xA0 (ok_aload_n (xdd xB_37 dX1_owes_12) rfl rfl) <|
  xA0 (ok_iconst (xdd xB_37 dX1_owes_13) rfl rfl (xrg rfl)) <|
  xAK rfl (xC1 (ok_callV (xdd xB_37 dX1_owes_14) rfl xq_0 rfl xp_7_1 q484 q486 qs3 q111 q487) xC0) <|
  xA0 (ok_i2l (xdd xB_37 dX1_owes_17) rfl) <|
  xAR (ok_lreturn (xdd xB_37 dX1_owes_18) rfl) <|
  xA0 (ok_aload_n (xdd xB_37 dX1_owes_19) rfl rfl) <|
  xA1 (ok_getA (xdd xB_37 dX1_owes_20) rfl (lk_f q409) rfl) <|
  xA0 (ok_iload_n (xdd xB_37 dX1_owes_23) rfl rfl) <|
  xAK rfl (xC1 (ok_callV (xdd xB_37 dX1_owes_24) rfl xq_3 rfl xp_107_1 q969 q970 q971 q117 q972) xC0) <|
  xA0 (ok_istore_n (xdd xB_37 dX1_owes_27) rfl rfl) <|
  xA0 (ok_iload_n (xdd xB_37 dX1_owes_28) rfl rfl) <|
  xA0 (ok_bipush (xdd xB_37 dX1_owes_29) rfl rfl (xrg rfl)) <|
  xAB (ok_icmp_ne (xdd xB_37 dX1_owes_31) rfl rfl) <|
  xAe
theorem xe_37_1 {s0 : State} {A0 : Array Value} {D : va_G} {ta : Nat → ClassId} {l : Launch} : XAll s0 A0 D ta l 37 xk_37_1 :=
  xA0 (ok_lconst (xdd xB_37 dX1_owes_34) rfl rfl (xrgL rfl)) <|
  xA0 (ok_lconst (xdd xB_37 dX1_owes_35) rfl rfl (xrgL rfl)) <|
  xA0 (ok_iload_n (xdd xB_37 dX1_owes_36) rfl rfl) <|
  xAK rfl (xC1 (ok_callS (xdd xB_37 dX1_owes_37) rfl xp_38_3 q1188 q1189 q111 q1190) xC0) <|
  xA0 (ok_goto (xdd xB_37 dX1_owes_40) rfl) <|
  xA0 (ok_aload_n (xdd xB_37 dX1_owes_43) rfl rfl) <|
  xA1 (ok_getA (xdd xB_37 dX1_owes_44) rfl (lk_f q403) rfl) <|
  xA1 (ok_getA (xdd xB_37 dX1_owes_47) rfl (lk_f q506) rfl) <|
  xA0 (ok_iload_n (xdd xB_37 dX1_owes_50) rfl rfl) <|
  xA1 (ok_aaload (xdd xB_37 dX1_owes_51) rfl) <|
  xA1 (ok_getI (xdd xB_37 dX1_owes_52) rfl (lk_f q803) (by decide)) <|
  xA0 (ok_i2l (xdd xB_37 dX1_owes_55) rfl) <|
  xA0 (ok_aload_n (xdd xB_37 dX1_owes_56) rfl rfl) <|
  xA0 (ok_iload_n (xdd xB_37 dX1_owes_57) rfl rfl) <|
  xAK rfl (xC1 (ok_callV (xdd xB_37 dX1_owes_58) rfl xq_0 rfl xp_40_1 q1197 q1199 qs37 q111 q1200) xC0) <|
  xA0 (ok_i2l (xdd xB_37 dX1_owes_61) rfl) <|
  xA0 (ok_iload_n (xdd xB_37 dX1_owes_62) rfl rfl) <|
  xAK rfl (xC1 (ok_callS (xdd xB_37 dX1_owes_63) rfl xp_38_3 q1188 q1189 q111 q1190) xC0) <|
  xAe
theorem xe_37_2 {s0 : State} {A0 : Array Value} {D : va_G} {ta : Nat → ClassId} {l : Launch} : XAll s0 A0 D ta l 37 xk_37_2 :=
  xAR (ok_lreturn (xdd xB_37 dX1_owes_66) rfl) <|
  xAe
theorem xe_37 {s0 : State} {A0 : Array Value} {D : va_G} {ta : Nat → ClassId} {l : Launch} : XAllC s0 A0 D ta l 37 xk_37 := ⟨xe_37_0, xe_37_1, xe_37_2, trivial⟩
theorem xe_38_0 {s0 : State} {A0 : Array Value} {D : va_G} {ta : Nat → ClassId} {l : Launch} : XAll s0 A0 D ta l 38 xk_38_0 :=
  xA0 (ok_iload (xdd xB_38 dX1_lowest_0) rfl) <|
  xAB (ok_if_eq (xdd xB_38 dX1_lowest_2) rfl rfl) <|
  xA0 (ok_lload_n (xdd xB_38 dX1_lowest_5) rfl rfl) <|
  xA0 (ok_goto (xdd xB_38 dX1_lowest_6) rfl) <|
  xA0 (ok_lload_n (xdd xB_38 dX1_lowest_9) rfl rfl) <|
  xA0 (ok_lload_n (xdd xB_38 dX1_lowest_10) rfl rfl) <|
  xA0 (ok_lload_n (xdd xB_38 dX1_lowest_11) rfl rfl) <|
  xA1 (ok_mabsJ (xdd xB_38 dX1_lowest_12) rfl q1191) <|
  xAK rfl (xC1 (ok_callS (xdd xB_38 dX1_lowest_15) rfl xp_39_2 q1194 q1195 q111 q1196) xC0) <|
  xA1 (ok_ldiv (xdd xB_38 dX1_lowest_18) rfl) <|
  xAR (ok_lreturn (xdd xB_38 dX1_lowest_19) rfl) <|
  xAe
theorem xe_38 {s0 : State} {A0 : Array Value} {D : va_G} {ta : Nat → ClassId} {l : Launch} : XAllC s0 A0 D ta l 38 xk_38 := ⟨xe_38_0, trivial⟩
theorem xe_39_0 {s0 : State} {A0 : Array Value} {D : va_G} {ta : Nat → ClassId} {l : Launch} : XAll s0 A0 D ta l 39 xk_39_0 :=
  xA0 (ok_lload_n (xdd xB_39 dX1_dividing_0) rfl rfl) <|
  xA0 (ok_lconst (xdd xB_39 dX1_dividing_1) rfl rfl (xrgL rfl)) <|
  xA0 (ok_lcmp (xdd xB_39 dX1_dividing_2) rfl) <|
  xAB (ok_if_ne (xdd xB_39 dX1_dividing_3) rfl rfl) <|
  xA0 (ok_lload_n (xdd xB_39 dX1_dividing_6) rfl rfl) <|
  xA0 (ok_goto (xdd xB_39 dX1_dividing_7) rfl) <|
  xA0 (ok_lload_n (xdd xB_39 dX1_dividing_10) rfl rfl) <|
  xA0 (ok_lload_n (xdd xB_39 dX1_dividing_11) rfl rfl) <|
  xA0 (ok_lload_n (xdd xB_39 dX1_dividing_12) rfl rfl) <|
  xA1 (ok_lrem (xdd xB_39 dX1_dividing_13) rfl) <|
  xAK rfl (xC1 (ok_callS (xdd xB_39 dX1_dividing_14) rfl xp_39_2 q1194 q1195 q111 q1196) xC0) <|
  xAR (ok_lreturn (xdd xB_39 dX1_dividing_17) rfl) <|
  xAe
theorem xe_39 {s0 : State} {A0 : Array Value} {D : va_G} {ta : Nat → ClassId} {l : Launch} : XAllC s0 A0 D ta l 39 xk_39 := ⟨xe_39_0, trivial⟩
theorem xe_40_0 {s0 : State} {A0 : Array Value} {D : va_G} {ta : Nat → ClassId} {l : Launch} : XAll s0 A0 D ta l 40 xk_40_0 :=
  xA0 (ok_aload_n (xdd xB_40 dX1_shares_0) rfl rfl) <|
  xA1 (ok_getA (xdd xB_40 dX1_shares_1) rfl (lk_f q403) rfl) <|
  xA1 (ok_getA (xdd xB_40 dX1_shares_4) rfl (lk_f q506) rfl) <|
  xA0 (ok_iload_n (xdd xB_40 dX1_shares_7) rfl rfl) <|
  xA1 (ok_aaload (xdd xB_40 dX1_shares_8) rfl) <|
  xA1 (ok_getI (xdd xB_40 dX1_shares_9) rfl (lk_f q799) (by decide)) <|
  xA0 (ok_iconst (xdd xB_40 dX1_shares_12) rfl rfl (xrg rfl)) <|
  xA1 (ok_iadd (xdd xB_40 dX1_shares_13) rfl) <|
  xAR (ok_ireturn (xdd xB_40 dX1_shares_14) rfl) <|
  xAe
theorem xe_40 {s0 : State} {A0 : Array Value} {D : va_G} {ta : Nat → ClassId} {l : Launch} : XAllC s0 A0 D ta l 40 xk_40 := ⟨xe_40_0, trivial⟩
theorem xe_41_0 {s0 : State} {A0 : Array Value} {D : va_G} {ta : Nat → ClassId} {l : Launch} : XAll s0 A0 D ta l 41 xk_41_0 :=
  xA0 (ok_aload_n (xdd xB_41 dX1_net_0) rfl rfl) <|
  xAK rfl (xC1 (ok_callV (xdd xB_41 dX1_net_1) rfl xq_0 rfl xp_5_0 q477 q479 qs2 q111 q480) xC0) <|
  xA0 (ok_aload_n (xdd xB_41 dX1_net_4) rfl rfl) <|
  xA0 (ok_iload_n (xdd xB_41 dX1_net_5) rfl rfl) <|
  xAK rfl (xC1 (ok_callV (xdd xB_41 dX1_net_6) rfl xq_0 rfl xp_11_1 q965 q967 qs27 q111 q968) xC0) <|
  xAB (ok_if_ne (xdd xB_41 dX1_net_9) rfl rfl) <|
  xA0 (ok_aload_n (xdd xB_41 dX1_net_12) rfl rfl) <|
  xA0 (ok_iconst (xdd xB_41 dX1_net_13) rfl rfl (xrg rfl)) <|
  xA1 (ok_putI (xdd xB_41 dX1_net_14) rfl (lk_f q404) rfl xfd_4 (Or.inl rfl)) <|
  xA0 (ok_ldc2 (xdd xB_41 dX1_net_17) rfl q1205 rfl (xrgL rfl)) <|
  xAR (ok_lreturn (xdd xB_41 dX1_net_20) rfl) <|
  xA0 (ok_aload_n (xdd xB_41 dX1_net_21) rfl rfl) <|
  xA1 (ok_getA (xdd xB_41 dX1_net_22) rfl (lk_f q409) rfl) <|
  xA0 (ok_iload_n (xdd xB_41 dX1_net_25) rfl rfl) <|
  xAK rfl (xC1 (ok_callV (xdd xB_41 dX1_net_26) rfl xq_3 rfl xp_107_1 q969 q970 q971 q117 q972) xC0) <|
  xA0 (ok_istore_n (xdd xB_41 dX1_net_29) rfl rfl) <|
  xA0 (ok_aload_n (xdd xB_41 dX1_net_30) rfl rfl) <|
  xA1 (ok_getA (xdd xB_41 dX1_net_31) rfl (lk_f q409) rfl) <|
  xAe
theorem xe_41_1 {s0 : State} {A0 : Array Value} {D : va_G} {ta : Nat → ClassId} {l : Launch} : XAll s0 A0 D ta l 41 xk_41_1 :=
  xA1 (ok_getA (xdd xB_41 dX1_net_34) rfl (lk_f q273) rfl) <|
  xA0 (ok_iload_n (xdd xB_41 dX1_net_37) rfl rfl) <|
  xA1 (ok_iaload (xdd xB_41 dX1_net_38) rfl) <|
  xA0 (ok_bipush (xdd xB_41 dX1_net_39) rfl rfl (xrg rfl)) <|
  xAB (ok_icmp_ne (xdd xB_41 dX1_net_41) rfl rfl) <|
  xA0 (ok_lconst (xdd xB_41 dX1_net_44) rfl rfl (xrgL rfl)) <|
  xA0 (ok_goto (xdd xB_41 dX1_net_45) rfl) <|
  xA0 (ok_aload_n (xdd xB_41 dX1_net_48) rfl rfl) <|
  xA1 (ok_getA (xdd xB_41 dX1_net_49) rfl (lk_f q403) rfl) <|
  xA1 (ok_getA (xdd xB_41 dX1_net_52) rfl (lk_f q506) rfl) <|
  xA0 (ok_iload_n (xdd xB_41 dX1_net_55) rfl rfl) <|
  xA1 (ok_aaload (xdd xB_41 dX1_net_56) rfl) <|
  xA1 (ok_getI (xdd xB_41 dX1_net_57) rfl (lk_f q803) (by decide)) <|
  xA0 (ok_i2l (xdd xB_41 dX1_net_60) rfl) <|
  xA0 (ok_lstore (xdd xB_41 dX1_net_61) rfl) <|
  xA0 (ok_iload_n (xdd xB_41 dX1_net_63) rfl rfl) <|
  xAe
theorem xe_41_2 {s0 : State} {A0 : Array Value} {D : va_G} {ta : Nat → ClassId} {l : Launch} : XAll s0 A0 D ta l 41 xk_41_2 :=
  xA0 (ok_bipush (xdd xB_41 dX1_net_64) rfl rfl (xrg rfl)) <|
  xAB (ok_icmp_ne (xdd xB_41 dX1_net_66) rfl rfl) <|
  xA0 (ok_lconst (xdd xB_41 dX1_net_69) rfl rfl (xrgL rfl)) <|
  xA0 (ok_goto (xdd xB_41 dX1_net_70) rfl) <|
  xA0 (ok_aload_n (xdd xB_41 dX1_net_73) rfl rfl) <|
  xA1 (ok_getA (xdd xB_41 dX1_net_74) rfl (lk_f q403) rfl) <|
  xA1 (ok_getA (xdd xB_41 dX1_net_77) rfl (lk_f q506) rfl) <|
  xA0 (ok_iload_n (xdd xB_41 dX1_net_80) rfl rfl) <|
  xA1 (ok_aaload (xdd xB_41 dX1_net_81) rfl) <|
  xA1 (ok_getI (xdd xB_41 dX1_net_82) rfl (lk_f q803) (by decide)) <|
  xA0 (ok_i2l (xdd xB_41 dX1_net_85) rfl) <|
  xA0 (ok_lstore (xdd xB_41 dX1_net_86) rfl) <|
  xA0 (ok_iload_n (xdd xB_41 dX1_net_88) rfl rfl) <|
  xA0 (ok_bipush (xdd xB_41 dX1_net_89) rfl rfl (xrg rfl)) <|
  xAB (ok_icmp_ne (xdd xB_41 dX1_net_91) rfl rfl) <|
  xA0 (ok_lconst (xdd xB_41 dX1_net_94) rfl rfl (xrgL rfl)) <|
  xA0 (ok_goto (xdd xB_41 dX1_net_95) rfl) <|
  xAe
theorem xe_41_3 {s0 : State} {A0 : Array Value} {D : va_G} {ta : Nat → ClassId} {l : Launch} : XAll s0 A0 D ta l 41 xk_41_3 :=
  xA0 (ok_aload_n (xdd xB_41 dX1_net_98) rfl rfl) <|
  xA0 (ok_iload_n (xdd xB_41 dX1_net_99) rfl rfl) <|
  xAK rfl (xC1 (ok_callV (xdd xB_41 dX1_net_100) rfl xq_0 rfl xp_40_1 q1197 q1199 qs37 q111 q1200) xC0) <|
  xA0 (ok_i2l (xdd xB_41 dX1_net_103) rfl) <|
  xA0 (ok_lstore (xdd xB_41 dX1_net_104) rfl) <|
  xA0 (ok_lload (xdd xB_41 dX1_net_106) rfl) <|
  xA0 (ok_lload (xdd xB_41 dX1_net_108) rfl) <|
  xA1 (ok_lmul (xdd xB_41 dX1_net_110) rfl) <|
  xA0 (ok_lload (xdd xB_41 dX1_net_111) rfl) <|
  xA0 (ok_aload_n (xdd xB_41 dX1_net_113) rfl rfl) <|
  xA0 (ok_iload_n (xdd xB_41 dX1_net_114) rfl rfl) <|
  xAK rfl (xC1 (ok_callV (xdd xB_41 dX1_net_115) rfl xq_0 rfl xp_40_1 q1197 q1199 qs37 q111 q1200) xC0) <|
  xA0 (ok_i2l (xdd xB_41 dX1_net_118) rfl) <|
  xA1 (ok_lmul (xdd xB_41 dX1_net_119) rfl) <|
  xA1 (ok_lsub (xdd xB_41 dX1_net_120) rfl) <|
  xA0 (ok_aload_n (xdd xB_41 dX1_net_121) rfl rfl) <|
  xA0 (ok_iload_n (xdd xB_41 dX1_net_122) rfl rfl) <|
  xAK rfl (xC1 (ok_callV (xdd xB_41 dX1_net_123) rfl xq_0 rfl xp_40_1 q1197 q1199 qs37 q111 q1200) xC0) <|
  xA0 (ok_i2l (xdd xB_41 dX1_net_126) rfl) <|
  xA0 (ok_lload (xdd xB_41 dX1_net_127) rfl) <|
  xAe
theorem xe_41_4 {s0 : State} {A0 : Array Value} {D : va_G} {ta : Nat → ClassId} {l : Launch} : XAll s0 A0 D ta l 41 xk_41_4 :=
  xA1 (ok_lmul (xdd xB_41 dX1_net_129) rfl) <|
  xA0 (ok_iload_n (xdd xB_41 dX1_net_130) rfl rfl) <|
  xAK rfl (xC1 (ok_callS (xdd xB_41 dX1_net_131) rfl xp_38_3 q1188 q1189 q111 q1190) xC0) <|
  xAR (ok_lreturn (xdd xB_41 dX1_net_134) rfl) <|
  xAe
theorem xe_41 {s0 : State} {A0 : Array Value} {D : va_G} {ta : Nat → ClassId} {l : Launch} : XAllC s0 A0 D ta l 41 xk_41 := ⟨xe_41_0, xe_41_1, xe_41_2, xe_41_3, xe_41_4, trivial⟩
theorem xe_42_0 {s0 : State} {A0 : Array Value} {D : va_G} {ta : Nat → ClassId} {l : Launch} : XAll s0 A0 D ta l 42 xk_42_0 :=
  xA0 (ok_aload_n (xdd xB_42 dX1_debtor_0) rfl rfl) <|
  xAK rfl (xC1 (ok_callV (xdd xB_42 dX1_debtor_1) rfl xq_0 rfl xp_5_0 q477 q479 qs2 q111 q480) xC0) <|
  xA0 (ok_aload_n (xdd xB_42 dX1_debtor_4) rfl rfl) <|
  xA1 (ok_getA (xdd xB_42 dX1_debtor_5) rfl (lk_f q403) rfl) <|
  xAB (ok_ifnonnull (xdd xB_42 dX1_debtor_8) rfl rfl) <|
  xA0 (ok_aload_n (xdd xB_42 dX1_debtor_11) rfl rfl) <|
  xA0 (ok_iconst (xdd xB_42 dX1_debtor_12) rfl rfl (xrg rfl)) <|
  xAK rfl (xC1 (ok_callV (xdd xB_42 dX1_debtor_13) rfl xq_0 rfl xp_7_1 q484 q486 qs3 q111 q487) xC0) <|
  xAR (ok_ireturn (xdd xB_42 dX1_debtor_16) rfl) <|
  xA0 (ok_bipush (xdd xB_42 dX1_debtor_17) rfl rfl (xrg rfl)) <|
  xA0 (ok_istore_n (xdd xB_42 dX1_debtor_19) rfl rfl) <|
  xA0 (ok_iconst (xdd xB_42 dX1_debtor_20) rfl rfl (xrg rfl)) <|
  xA0 (ok_istore_n (xdd xB_42 dX1_debtor_21) rfl rfl) <|
  xA0 (ok_iconst (xdd xB_42 dX1_debtor_22) rfl rfl (xrg rfl)) <|
  xA0 (ok_istore_n (xdd xB_42 dX1_debtor_23) rfl rfl) <|
  xA0 (ok_iconst (xdd xB_42 dX1_debtor_24) rfl rfl (xrg rfl)) <|
  xA0 (ok_istore (xdd xB_42 dX1_debtor_25) rfl) <|
  xA0 (ok_iload (xdd xB_42 dX1_debtor_27) rfl) <|
  xA0 (ok_aload_n (xdd xB_42 dX1_debtor_29) rfl rfl) <|
  xA1 (ok_getA (xdd xB_42 dX1_debtor_30) rfl (lk_f q403) rfl) <|
  xAe
theorem xe_42_1 {s0 : State} {A0 : Array Value} {D : va_G} {ta : Nat → ClassId} {l : Launch} : XAll s0 A0 D ta l 42 xk_42_1 :=
  xA1 (ok_getI (xdd xB_42 dX1_debtor_33) rfl (lk_f q528) (by decide)) <|
  xAB (ok_icmp_ge (xdd xB_42 dX1_debtor_36) rfl rfl) <|
  xA0 (ok_aload_n (xdd xB_42 dX1_debtor_39) rfl rfl) <|
  xA1 (ok_getA (xdd xB_42 dX1_debtor_40) rfl (lk_f q409) rfl) <|
  xA0 (ok_iload (xdd xB_42 dX1_debtor_43) rfl) <|
  xAK rfl (xC1 (ok_callV (xdd xB_42 dX1_debtor_45) rfl xq_3 rfl xp_107_1 q969 q970 q971 q117 q972) xC0) <|
  xA0 (ok_istore (xdd xB_42 dX1_debtor_48) rfl) <|
  xA0 (ok_iload (xdd xB_42 dX1_debtor_50) rfl) <|
  xA0 (ok_bipush (xdd xB_42 dX1_debtor_52) rfl rfl (xrg rfl)) <|
  xAB (ok_icmp_eq (xdd xB_42 dX1_debtor_54) rfl rfl) <|
  xA0 (ok_aload_n (xdd xB_42 dX1_debtor_57) rfl rfl) <|
  xA1 (ok_getA (xdd xB_42 dX1_debtor_58) rfl (lk_f q403) rfl) <|
  xA1 (ok_getA (xdd xB_42 dX1_debtor_61) rfl (lk_f q506) rfl) <|
  xAe
theorem xe_42_2 {s0 : State} {A0 : Array Value} {D : va_G} {ta : Nat → ClassId} {l : Launch} : XAll s0 A0 D ta l 42 xk_42_2 :=
  xA0 (ok_iload (xdd xB_42 dX1_debtor_64) rfl) <|
  xA1 (ok_aaload (xdd xB_42 dX1_debtor_66) rfl) <|
  xA1 (ok_getI (xdd xB_42 dX1_debtor_67) rfl (lk_f q803) (by decide)) <|
  xA0 (ok_iload_n (xdd xB_42 dX1_debtor_70) rfl rfl) <|
  xA1 (ok_imul (xdd xB_42 dX1_debtor_71) rfl) <|
  xA0 (ok_iload_n (xdd xB_42 dX1_debtor_72) rfl rfl) <|
  xA0 (ok_aload_n (xdd xB_42 dX1_debtor_73) rfl rfl) <|
  xA0 (ok_iload (xdd xB_42 dX1_debtor_74) rfl) <|
  xAK rfl (xC1 (ok_callV (xdd xB_42 dX1_debtor_76) rfl xq_0 rfl xp_40_1 q1197 q1199 qs37 q111 q1200) xC0) <|
  xA1 (ok_imul (xdd xB_42 dX1_debtor_79) rfl) <|
  xAB (ok_icmp_gt (xdd xB_42 dX1_debtor_80) rfl rfl) <|
  xA0 (ok_goto (xdd xB_42 dX1_debtor_83) rfl) <|
  xA0 (ok_iload (xdd xB_42 dX1_debtor_86) rfl) <|
  xA0 (ok_istore_n (xdd xB_42 dX1_debtor_88) rfl rfl) <|
  xA0 (ok_aload_n (xdd xB_42 dX1_debtor_89) rfl rfl) <|
  xA1 (ok_getA (xdd xB_42 dX1_debtor_90) rfl (lk_f q403) rfl) <|
  xA1 (ok_getA (xdd xB_42 dX1_debtor_93) rfl (lk_f q506) rfl) <|
  xAe
theorem xe_42_3 {s0 : State} {A0 : Array Value} {D : va_G} {ta : Nat → ClassId} {l : Launch} : XAll s0 A0 D ta l 42 xk_42_3 :=
  xA0 (ok_iload (xdd xB_42 dX1_debtor_96) rfl) <|
  xA1 (ok_aaload (xdd xB_42 dX1_debtor_98) rfl) <|
  xA1 (ok_getI (xdd xB_42 dX1_debtor_99) rfl (lk_f q803) (by decide)) <|
  xA0 (ok_istore_n (xdd xB_42 dX1_debtor_102) rfl rfl) <|
  xA0 (ok_aload_n (xdd xB_42 dX1_debtor_103) rfl rfl) <|
  xA0 (ok_iload (xdd xB_42 dX1_debtor_104) rfl) <|
  xAK rfl (xC1 (ok_callV (xdd xB_42 dX1_debtor_106) rfl xq_0 rfl xp_40_1 q1197 q1199 qs37 q111 q1200) xC0) <|
  xA0 (ok_istore_n (xdd xB_42 dX1_debtor_109) rfl rfl) <|
  xA1 (ok_iinc (xdd xB_42 dX1_debtor_110) rfl) <|
  xA0 (ok_goto (xdd xB_42 dX1_debtor_113) rfl) <|
  xA0 (ok_iload_n (xdd xB_42 dX1_debtor_116) rfl rfl) <|
  xAR (ok_ireturn (xdd xB_42 dX1_debtor_117) rfl) <|
  xAe
theorem xe_42 {s0 : State} {A0 : Array Value} {D : va_G} {ta : Nat → ClassId} {l : Launch} : XAllC s0 A0 D ta l 42 xk_42 := ⟨xe_42_0, xe_42_1, xe_42_2, xe_42_3, trivial⟩
theorem xe_43_0 {s0 : State} {A0 : Array Value} {D : va_G} {ta : Nat → ClassId} {l : Launch} : XAll s0 A0 D ta l 43 xk_43_0 :=
  xA0 (ok_aload_n (xdd xB_43 dX1_paired_0) rfl rfl) <|
  xAK rfl (xC1 (ok_callV (xdd xB_43 dX1_paired_1) rfl xq_0 rfl xp_5_0 q477 q479 qs2 q111 q480) xC0) <|
  xA0 (ok_aload_n (xdd xB_43 dX1_paired_4) rfl rfl) <|
  xA1 (ok_getA (xdd xB_43 dX1_paired_5) rfl (lk_f q403) rfl) <|
  xAB (ok_ifnonnull (xdd xB_43 dX1_paired_8) rfl rfl) <|
  xA0 (ok_aload_n (xdd xB_43 dX1_paired_11) rfl rfl) <|
  xA0 (ok_iconst (xdd xB_43 dX1_paired_12) rfl rfl (xrg rfl)) <|
  xAK rfl (xC1 (ok_callV (xdd xB_43 dX1_paired_13) rfl xq_0 rfl xp_7_1 q484 q486 qs3 q111 q487) xC0) <|
  xAR (ok_ireturn (xdd xB_43 dX1_paired_16) rfl) <|
  xA0 (ok_aload_n (xdd xB_43 dX1_paired_17) rfl rfl) <|
  xA1 (ok_getA (xdd xB_43 dX1_paired_18) rfl (lk_f q416) rfl) <|
  xA0 (ok_aload_n (xdd xB_43 dX1_paired_21) rfl rfl) <|
  xA1 (ok_getA (xdd xB_43 dX1_paired_22) rfl (lk_f q403) rfl) <|
  xA0 (ok_aload_n (xdd xB_43 dX1_paired_25) rfl rfl) <|
  xA1 (ok_getA (xdd xB_43 dX1_paired_26) rfl (lk_f q409) rfl) <|
  xAK rfl (xC1 (ok_callV (xdd xB_43 dX1_paired_29) rfl xq_8 rfl xp_135_2 q1214 q1215 q1216 q123 q1217) xC0) <|
  xAe
theorem xe_43_1 {s0 : State} {A0 : Array Value} {D : va_G} {ta : Nat → ClassId} {l : Launch} : XAll s0 A0 D ta l 43 xk_43_1 :=
  xA0 (ok_aload_n (xdd xB_43 dX1_paired_32) rfl rfl) <|
  xA1 (ok_getA (xdd xB_43 dX1_paired_33) rfl (lk_f q416) rfl) <|
  xA1 (ok_getI (xdd xB_43 dX1_paired_36) rfl (lk_f q384) (by decide)) <|
  xAR (ok_ireturn (xdd xB_43 dX1_paired_39) rfl) <|
  xAe
theorem xe_43 {s0 : State} {A0 : Array Value} {D : va_G} {ta : Nat → ClassId} {l : Launch} : XAllC s0 A0 D ta l 43 xk_43 := ⟨xe_43_0, xe_43_1, trivial⟩
theorem xe_44_0 {s0 : State} {A0 : Array Value} {D : va_G} {ta : Nat → ClassId} {l : Launch} : XAll s0 A0 D ta l 44 xk_44_0 :=
  xA0 (ok_iconst (xdd xB_44 dX1_ones_0) rfl rfl (xrg rfl)) <|
  xA0 (ok_istore_n (xdd xB_44 dX1_ones_1) rfl rfl) <|
  xA0 (ok_iload_n (xdd xB_44 dX1_ones_2) rfl rfl) <|
  xA0 (ok_istore_n (xdd xB_44 dX1_ones_3) rfl rfl) <|
  xA0 (ok_iload_n (xdd xB_44 dX1_ones_4) rfl rfl) <|
  xAB (ok_if_eq (xdd xB_44 dX1_ones_5) rfl rfl) <|
  xA1 (ok_iinc (xdd xB_44 dX1_ones_8) rfl) <|
  xA0 (ok_iload_n (xdd xB_44 dX1_ones_11) rfl rfl) <|
  xA0 (ok_iload_n (xdd xB_44 dX1_ones_12) rfl rfl) <|
  xA0 (ok_iconst (xdd xB_44 dX1_ones_13) rfl rfl (xrg rfl)) <|
  xA1 (ok_isub (xdd xB_44 dX1_ones_14) rfl) <|
  xA0 (ok_iand (xdd xB_44 dX1_ones_15) rfl) <|
  xA0 (ok_istore_n (xdd xB_44 dX1_ones_16) rfl rfl) <|
  xA0 (ok_goto (xdd xB_44 dX1_ones_17) rfl) <|
  xA0 (ok_iload_n (xdd xB_44 dX1_ones_20) rfl rfl) <|
  xAR (ok_ireturn (xdd xB_44 dX1_ones_21) rfl) <|
  xAe
theorem xe_44 {s0 : State} {A0 : Array Value} {D : va_G} {ta : Nat → ClassId} {l : Launch} : XAllC s0 A0 D ta l 44 xk_44 := ⟨xe_44_0, trivial⟩
theorem xe_45_0 {s0 : State} {A0 : Array Value} {D : va_G} {ta : Nat → ClassId} {l : Launch} : XAll s0 A0 D ta l 45 xk_45_0 :=
  xA0 (ok_aload_n (xdd xB_45 dX1_fewest_0) rfl rfl) <|
  xAK rfl (xC1 (ok_callV (xdd xB_45 dX1_fewest_1) rfl xq_0 rfl xp_5_0 q477 q479 qs2 q111 q480) xC0) <|
  xA0 (ok_aload_n (xdd xB_45 dX1_fewest_4) rfl rfl) <|
  xA1 (ok_getA (xdd xB_45 dX1_fewest_5) rfl (lk_f q403) rfl) <|
  xAB (ok_ifnonnull (xdd xB_45 dX1_fewest_8) rfl rfl) <|
  xA0 (ok_aload_n (xdd xB_45 dX1_fewest_11) rfl rfl) <|
  xA0 (ok_iconst (xdd xB_45 dX1_fewest_12) rfl rfl (xrg rfl)) <|
  xAK rfl (xC1 (ok_callV (xdd xB_45 dX1_fewest_13) rfl xq_0 rfl xp_7_1 q484 q486 qs3 q111 q487) xC0) <|
  xAR (ok_ireturn (xdd xB_45 dX1_fewest_16) rfl) <|
  xA0 (ok_aload_n (xdd xB_45 dX1_fewest_17) rfl rfl) <|
  xA1 (ok_getA (xdd xB_45 dX1_fewest_18) rfl (lk_f q416) rfl) <|
  xA0 (ok_aload_n (xdd xB_45 dX1_fewest_21) rfl rfl) <|
  xA1 (ok_getA (xdd xB_45 dX1_fewest_22) rfl (lk_f q403) rfl) <|
  xA0 (ok_aload_n (xdd xB_45 dX1_fewest_25) rfl rfl) <|
  xA1 (ok_getA (xdd xB_45 dX1_fewest_26) rfl (lk_f q409) rfl) <|
  xAK rfl (xC1 (ok_callV (xdd xB_45 dX1_fewest_29) rfl xq_8 rfl xp_135_2 q1214 q1215 q1216 q123 q1217) xC0) <|
  xAe
theorem xe_45_1 {s0 : State} {A0 : Array Value} {D : va_G} {ta : Nat → ClassId} {l : Launch} : XAll s0 A0 D ta l 45 xk_45_1 :=
  xA0 (ok_aload_n (xdd xB_45 dX1_fewest_32) rfl rfl) <|
  xA1 (ok_getA (xdd xB_45 dX1_fewest_33) rfl (lk_f q416) rfl) <|
  xA1 (ok_getI (xdd xB_45 dX1_fewest_36) rfl (lk_f q386) (by decide)) <|
  xAR (ok_ireturn (xdd xB_45 dX1_fewest_39) rfl) <|
  xAe
theorem xe_45 {s0 : State} {A0 : Array Value} {D : va_G} {ta : Nat → ClassId} {l : Launch} : XAllC s0 A0 D ta l 45 xk_45 := ⟨xe_45_0, xe_45_1, trivial⟩
theorem xe_46_0 {s0 : State} {A0 : Array Value} {D : va_G} {ta : Nat → ClassId} {l : Launch} : XAll s0 A0 D ta l 46 xk_46_0 :=
  xA0 (ok_aload_n (xdd xB_46 dX1_exchangeAt_0) rfl rfl) <|
  xAK rfl (xC1 (ok_callV (xdd xB_46 dX1_exchangeAt_1) rfl xq_0 rfl xp_5_0 q477 q479 qs2 q111 q480) xC0) <|
  xA0 (ok_aload_n (xdd xB_46 dX1_exchangeAt_4) rfl rfl) <|
  xA1 (ok_getA (xdd xB_46 dX1_exchangeAt_5) rfl (lk_f q403) rfl) <|
  xAB (ok_ifnonnull (xdd xB_46 dX1_exchangeAt_8) rfl rfl) <|
  xA0 (ok_aload_n (xdd xB_46 dX1_exchangeAt_11) rfl rfl) <|
  xA0 (ok_iconst (xdd xB_46 dX1_exchangeAt_12) rfl rfl (xrg rfl)) <|
  xAK rfl (xC1 (ok_callV (xdd xB_46 dX1_exchangeAt_13) rfl xq_0 rfl xp_7_1 q484 q486 qs3 q111 q487) xC0) <|
  xAR (ok_ireturn (xdd xB_46 dX1_exchangeAt_16) rfl) <|
  xA0 (ok_aload_n (xdd xB_46 dX1_exchangeAt_17) rfl rfl) <|
  xA1 (ok_getA (xdd xB_46 dX1_exchangeAt_18) rfl (lk_f q416) rfl) <|
  xA0 (ok_aload_n (xdd xB_46 dX1_exchangeAt_21) rfl rfl) <|
  xA1 (ok_getA (xdd xB_46 dX1_exchangeAt_22) rfl (lk_f q403) rfl) <|
  xA0 (ok_aload_n (xdd xB_46 dX1_exchangeAt_25) rfl rfl) <|
  xA1 (ok_getA (xdd xB_46 dX1_exchangeAt_26) rfl (lk_f q409) rfl) <|
  xAK rfl (xC1 (ok_callV (xdd xB_46 dX1_exchangeAt_29) rfl xq_8 rfl xp_135_2 q1214 q1215 q1216 q123 q1217) xC0) <|
  xAe
theorem xe_46_1 {s0 : State} {A0 : Array Value} {D : va_G} {ta : Nat → ClassId} {l : Launch} : XAll s0 A0 D ta l 46 xk_46_1 :=
  xA0 (ok_iload_n (xdd xB_46 dX1_exchangeAt_32) rfl rfl) <|
  xA0 (ok_iconst (xdd xB_46 dX1_exchangeAt_33) rfl rfl (xrg rfl)) <|
  xA0 (ok_aload_n (xdd xB_46 dX1_exchangeAt_34) rfl rfl) <|
  xA1 (ok_getA (xdd xB_46 dX1_exchangeAt_35) rfl (lk_f q416) rfl) <|
  xA1 (ok_getI (xdd xB_46 dX1_exchangeAt_38) rfl (lk_f q386) (by decide)) <|
  xA0 (ok_iconst (xdd xB_46 dX1_exchangeAt_41) rfl rfl (xrg rfl)) <|
  xA1 (ok_isub (xdd xB_46 dX1_exchangeAt_42) rfl) <|
  xAK rfl (xC1 (ok_callS (xdd xB_46 dX1_exchangeAt_43) rfl xp_6_3 q481 q482 q111 q483) xC0) <|
  xAB (ok_if_eq (xdd xB_46 dX1_exchangeAt_46) rfl rfl) <|
  xA0 (ok_aload_n (xdd xB_46 dX1_exchangeAt_49) rfl rfl) <|
  xA1 (ok_getA (xdd xB_46 dX1_exchangeAt_50) rfl (lk_f q416) rfl) <|
  xA0 (ok_iload_n (xdd xB_46 dX1_exchangeAt_53) rfl rfl) <|
  xAK rfl (xC1 (ok_callV (xdd xB_46 dX1_exchangeAt_54) rfl xq_8 rfl xp_137_1 q1248 q1249 q1250 q123 q1251) xC0) <|
  xA0 (ok_goto (xdd xB_46 dX1_exchangeAt_57) rfl) <|
  xA0 (ok_aload_n (xdd xB_46 dX1_exchangeAt_60) rfl rfl) <|
  xA0 (ok_iconst (xdd xB_46 dX1_exchangeAt_61) rfl rfl (xrg rfl)) <|
  xAK rfl (xC1 (ok_callV (xdd xB_46 dX1_exchangeAt_62) rfl xq_0 rfl xp_7_1 q484 q486 qs3 q111 q487) xC0) <|
  xAe
theorem xe_46_2 {s0 : State} {A0 : Array Value} {D : va_G} {ta : Nat → ClassId} {l : Launch} : XAll s0 A0 D ta l 46 xk_46_2 :=
  xAR (ok_ireturn (xdd xB_46 dX1_exchangeAt_65) rfl) <|
  xAe
theorem xe_46 {s0 : State} {A0 : Array Value} {D : va_G} {ta : Nat → ClassId} {l : Launch} : XAllC s0 A0 D ta l 46 xk_46 := ⟨xe_46_0, xe_46_1, xe_46_2, trivial⟩
theorem xe_47_0 {s0 : State} {A0 : Array Value} {D : va_G} {ta : Nat → ClassId} {l : Launch} : XAll s0 A0 D ta l 47 xk_47_0 :=
  xA0 (ok_aload_n (xdd xB_47 dX1_stands_0) rfl rfl) <|
  xAK rfl (xC1 (ok_callV (xdd xB_47 dX1_stands_1) rfl xq_0 rfl xp_5_0 q477 q479 qs2 q111 q480) xC0) <|
  xA0 (ok_aload_n (xdd xB_47 dX1_stands_4) rfl rfl) <|
  xA1 (ok_getA (xdd xB_47 dX1_stands_5) rfl (lk_f q403) rfl) <|
  xAB (ok_ifnonnull (xdd xB_47 dX1_stands_8) rfl rfl) <|
  xA0 (ok_aload_n (xdd xB_47 dX1_stands_11) rfl rfl) <|
  xA0 (ok_iconst (xdd xB_47 dX1_stands_12) rfl rfl (xrg rfl)) <|
  xAK rfl (xC1 (ok_callV (xdd xB_47 dX1_stands_13) rfl xq_0 rfl xp_7_1 q484 q486 qs3 q111 q487) xC0) <|
  xAR (ok_ireturn (xdd xB_47 dX1_stands_16) rfl) <|
  xA0 (ok_iload_n (xdd xB_47 dX1_stands_17) rfl rfl) <|
  xA0 (ok_iconst (xdd xB_47 dX1_stands_18) rfl rfl (xrg rfl)) <|
  xA0 (ok_sipush (xdd xB_47 dX1_stands_19) rfl rfl (xrg rfl)) <|
  xAK rfl (xC1 (ok_callS (xdd xB_47 dX1_stands_22) rfl xp_6_3 q481 q482 q111 q483) xC0) <|
  xAB (ok_if_ne (xdd xB_47 dX1_stands_25) rfl rfl) <|
  xA0 (ok_aload_n (xdd xB_47 dX1_stands_28) rfl rfl) <|
  xA0 (ok_iconst (xdd xB_47 dX1_stands_29) rfl rfl (xrg rfl)) <|
  xAK rfl (xC1 (ok_callV (xdd xB_47 dX1_stands_30) rfl xq_0 rfl xp_7_1 q484 q486 qs3 q111 q487) xC0) <|
  xAe
theorem xe_47_1 {s0 : State} {A0 : Array Value} {D : va_G} {ta : Nat → ClassId} {l : Launch} : XAll s0 A0 D ta l 47 xk_47_1 :=
  xAR (ok_ireturn (xdd xB_47 dX1_stands_33) rfl) <|
  xA0 (ok_iconst (xdd xB_47 dX1_stands_34) rfl rfl (xrg rfl)) <|
  xA0 (ok_istore_n (xdd xB_47 dX1_stands_35) rfl rfl) <|
  xA0 (ok_iload_n (xdd xB_47 dX1_stands_36) rfl rfl) <|
  xA0 (ok_aload_n (xdd xB_47 dX1_stands_37) rfl rfl) <|
  xA1 (ok_getA (xdd xB_47 dX1_stands_38) rfl (lk_f q403) rfl) <|
  xA1 (ok_getI (xdd xB_47 dX1_stands_41) rfl (lk_f q528) (by decide)) <|
  xAB (ok_icmp_ge (xdd xB_47 dX1_stands_44) rfl rfl) <|
  xA0 (ok_aload_n (xdd xB_47 dX1_stands_47) rfl rfl) <|
  xA1 (ok_getA (xdd xB_47 dX1_stands_48) rfl (lk_f q419) rfl) <|
  xA0 (ok_iload_n (xdd xB_47 dX1_stands_51) rfl rfl) <|
  xA0 (ok_iconst (xdd xB_47 dX1_stands_52) rfl rfl (xrg rfl)) <|
  xA1 (ok_iastore (xdd xB_47 dX1_stands_53) rfl) <|
  xA0 (ok_iconst (xdd xB_47 dX1_stands_54) rfl rfl (xrg rfl)) <|
  xA0 (ok_istore_n (xdd xB_47 dX1_stands_55) rfl rfl) <|
  xA0 (ok_iload_n (xdd xB_47 dX1_stands_56) rfl rfl) <|
  xA0 (ok_aload_n (xdd xB_47 dX1_stands_57) rfl rfl) <|
  xA1 (ok_getA (xdd xB_47 dX1_stands_58) rfl (lk_f q403) rfl) <|
  xA1 (ok_getI (xdd xB_47 dX1_stands_61) rfl (lk_f q528) (by decide)) <|
  xAe
theorem xe_47_2 {s0 : State} {A0 : Array Value} {D : va_G} {ta : Nat → ClassId} {l : Launch} : XAll s0 A0 D ta l 47 xk_47_2 :=
  xAB (ok_icmp_ge (xdd xB_47 dX1_stands_64) rfl rfl) <|
  xA0 (ok_aload_n (xdd xB_47 dX1_stands_67) rfl rfl) <|
  xA1 (ok_getA (xdd xB_47 dX1_stands_68) rfl (lk_f q419) rfl) <|
  xA0 (ok_iload_n (xdd xB_47 dX1_stands_71) rfl rfl) <|
  xA0 (ok_dup2 (xdd xB_47 dX1_stands_72) rfl) <|
  xA1 (ok_iaload (xdd xB_47 dX1_stands_73) rfl) <|
  xA0 (ok_aload_n (xdd xB_47 dX1_stands_74) rfl rfl) <|
  xA0 (ok_aload_n (xdd xB_47 dX1_stands_75) rfl rfl) <|
  xA1 (ok_getA (xdd xB_47 dX1_stands_76) rfl (lk_f q413) rfl) <|
  xA0 (ok_iload_n (xdd xB_47 dX1_stands_79) rfl rfl) <|
  xA0 (ok_iload_n (xdd xB_47 dX1_stands_80) rfl rfl) <|
  xA0 (ok_iconst (xdd xB_47 dX1_stands_81) rfl rfl (xrg rfl)) <|
  xAK rfl (xC1 (ok_callV (xdd xB_47 dX1_stands_82) rfl xq_0 rfl xp_25_4 q1055 q1057 qs32 q111 q1058) xC0) <|
  xA0 (ok_iconst (xdd xB_47 dX1_stands_85) rfl rfl (xrg rfl)) <|
  xA0 (ok_iload_n (xdd xB_47 dX1_stands_86) rfl rfl) <|
  xAK rfl (xC1 (ok_callS (xdd xB_47 dX1_stands_87) rfl xp_6_3 q481 q482 q111 q483) xC0) <|
  xAB (ok_if_eq (xdd xB_47 dX1_stands_90) rfl rfl) <|
  xA0 (ok_iconst (xdd xB_47 dX1_stands_93) rfl rfl (xrg rfl)) <|
  xA0 (ok_iload_n (xdd xB_47 dX1_stands_94) rfl rfl) <|
  xA1 (ok_ishl (xdd xB_47 dX1_stands_95) rfl) <|
  xAe
theorem xe_47_3 {s0 : State} {A0 : Array Value} {D : va_G} {ta : Nat → ClassId} {l : Launch} : XAll s0 A0 D ta l 47 xk_47_3 :=
  xA0 (ok_goto (xdd xB_47 dX1_stands_96) rfl) <|
  xA0 (ok_iconst (xdd xB_47 dX1_stands_99) rfl rfl (xrg rfl)) <|
  xA0 (ok_ior (xdd xB_47 dX1_stands_100) rfl) <|
  xA1 (ok_iastore (xdd xB_47 dX1_stands_101) rfl) <|
  xA1 (ok_iinc (xdd xB_47 dX1_stands_102) rfl) <|
  xA0 (ok_goto (xdd xB_47 dX1_stands_105) rfl) <|
  xA1 (ok_iinc (xdd xB_47 dX1_stands_108) rfl) <|
  xA0 (ok_goto (xdd xB_47 dX1_stands_111) rfl) <|
  xA0 (ok_iconst (xdd xB_47 dX1_stands_114) rfl rfl (xrg rfl)) <|
  xA0 (ok_aload_n (xdd xB_47 dX1_stands_115) rfl rfl) <|
  xA1 (ok_getA (xdd xB_47 dX1_stands_116) rfl (lk_f q403) rfl) <|
  xA1 (ok_getI (xdd xB_47 dX1_stands_119) rfl (lk_f q528) (by decide)) <|
  xA1 (ok_ishl (xdd xB_47 dX1_stands_122) rfl) <|
  xA0 (ok_iconst (xdd xB_47 dX1_stands_123) rfl rfl (xrg rfl)) <|
  xA1 (ok_isub (xdd xB_47 dX1_stands_124) rfl) <|
  xA0 (ok_istore_n (xdd xB_47 dX1_stands_125) rfl rfl) <|
  xA0 (ok_iconst (xdd xB_47 dX1_stands_126) rfl rfl (xrg rfl)) <|
  xA0 (ok_istore_n (xdd xB_47 dX1_stands_127) rfl rfl) <|
  xAe
theorem xe_47_4 {s0 : State} {A0 : Array Value} {D : va_G} {ta : Nat → ClassId} {l : Launch} : XAll s0 A0 D ta l 47 xk_47_4 :=
  xA0 (ok_iload_n (xdd xB_47 dX1_stands_128) rfl rfl) <|
  xA0 (ok_iconst (xdd xB_47 dX1_stands_129) rfl rfl (xrg rfl)) <|
  xA0 (ok_aload_n (xdd xB_47 dX1_stands_130) rfl rfl) <|
  xA1 (ok_getA (xdd xB_47 dX1_stands_131) rfl (lk_f q403) rfl) <|
  xA1 (ok_getI (xdd xB_47 dX1_stands_134) rfl (lk_f q528) (by decide)) <|
  xA1 (ok_ishl (xdd xB_47 dX1_stands_137) rfl) <|
  xAB (ok_icmp_ge (xdd xB_47 dX1_stands_138) rfl rfl) <|
  xA0 (ok_iload_n (xdd xB_47 dX1_stands_141) rfl rfl) <|
  xAK rfl (xC1 (ok_callS (xdd xB_47 dX1_stands_142) rfl xp_44_1 q1256 q1229 q111 q1230) xC0) <|
  xA0 (ok_iload_n (xdd xB_47 dX1_stands_145) rfl rfl) <|
  xAK rfl (xC1 (ok_callS (xdd xB_47 dX1_stands_146) rfl xp_44_1 q1256 q1229 q111 q1230) xC0) <|
  xAB (ok_icmp_ge (xdd xB_47 dX1_stands_149) rfl rfl) <|
  xA0 (ok_aload_n (xdd xB_47 dX1_stands_152) rfl rfl) <|
  xA0 (ok_iload_n (xdd xB_47 dX1_stands_153) rfl rfl) <|
  xAK rfl (xC1 (ok_callV (xdd xB_47 dX1_stands_154) rfl xq_0 rfl xp_48_1 q1257 q1259 qs39 q111 q1260) xC0) <|
  xAB (ok_if_eq (xdd xB_47 dX1_stands_157) rfl rfl) <|
  xAe
theorem xe_47_5 {s0 : State} {A0 : Array Value} {D : va_G} {ta : Nat → ClassId} {l : Launch} : XAll s0 A0 D ta l 47 xk_47_5 :=
  xA0 (ok_iload_n (xdd xB_47 dX1_stands_160) rfl rfl) <|
  xA0 (ok_istore_n (xdd xB_47 dX1_stands_161) rfl rfl) <|
  xA1 (ok_iinc (xdd xB_47 dX1_stands_162) rfl) <|
  xA0 (ok_goto (xdd xB_47 dX1_stands_165) rfl) <|
  xA0 (ok_iload_n (xdd xB_47 dX1_stands_168) rfl rfl) <|
  xAR (ok_ireturn (xdd xB_47 dX1_stands_169) rfl) <|
  xAe
theorem xe_47 {s0 : State} {A0 : Array Value} {D : va_G} {ta : Nat → ClassId} {l : Launch} : XAllC s0 A0 D ta l 47 xk_47 := ⟨xe_47_0, xe_47_1, xe_47_2, xe_47_3, xe_47_4, xe_47_5, trivial⟩
theorem xe_48_0 {s0 : State} {A0 : Array Value} {D : va_G} {ta : Nat → ClassId} {l : Launch} : XAll s0 A0 D ta l 48 xk_48_0 :=
  xA0 (ok_iconst (xdd xB_48 dX1_doStand_0) rfl rfl (xrg rfl)) <|
  xA0 (ok_istore_n (xdd xB_48 dX1_doStand_1) rfl rfl) <|
  xA0 (ok_iconst (xdd xB_48 dX1_doStand_2) rfl rfl (xrg rfl)) <|
  xA0 (ok_istore_n (xdd xB_48 dX1_doStand_3) rfl rfl) <|
  xA0 (ok_iload_n (xdd xB_48 dX1_doStand_4) rfl rfl) <|
  xA0 (ok_aload_n (xdd xB_48 dX1_doStand_5) rfl rfl) <|
  xA1 (ok_getA (xdd xB_48 dX1_doStand_6) rfl (lk_f q403) rfl) <|
  xA1 (ok_getI (xdd xB_48 dX1_doStand_9) rfl (lk_f q528) (by decide)) <|
  xAB (ok_icmp_ge (xdd xB_48 dX1_doStand_12) rfl rfl) <|
  xA0 (ok_iload_n (xdd xB_48 dX1_doStand_15) rfl rfl) <|
  xA0 (ok_iload_n (xdd xB_48 dX1_doStand_16) rfl rfl) <|
  xA0 (ok_iload_n (xdd xB_48 dX1_doStand_17) rfl rfl) <|
  xAK rfl (xC1 (ok_callS (xdd xB_48 dX1_doStand_18) rfl xp_12_2 q973 q974 q111 q975) xC0) <|
  xAB (ok_if_eq (xdd xB_48 dX1_doStand_21) rfl rfl) <|
  xA0 (ok_aload_n (xdd xB_48 dX1_doStand_24) rfl rfl) <|
  xA1 (ok_getA (xdd xB_48 dX1_doStand_25) rfl (lk_f q419) rfl) <|
  xA0 (ok_iload_n (xdd xB_48 dX1_doStand_28) rfl rfl) <|
  xA1 (ok_iaload (xdd xB_48 dX1_doStand_29) rfl) <|
  xA0 (ok_goto (xdd xB_48 dX1_doStand_30) rfl) <|
  xAe
theorem xe_48_1 {s0 : State} {A0 : Array Value} {D : va_G} {ta : Nat → ClassId} {l : Launch} : XAll s0 A0 D ta l 48 xk_48_1 :=
  xA0 (ok_iconst (xdd xB_48 dX1_doStand_33) rfl rfl (xrg rfl)) <|
  xA0 (ok_ior (xdd xB_48 dX1_doStand_34) rfl) <|
  xA0 (ok_istore_n (xdd xB_48 dX1_doStand_35) rfl rfl) <|
  xA1 (ok_iinc (xdd xB_48 dX1_doStand_36) rfl) <|
  xA0 (ok_goto (xdd xB_48 dX1_doStand_39) rfl) <|
  xA0 (ok_iload_n (xdd xB_48 dX1_doStand_42) rfl rfl) <|
  xA0 (ok_iconst (xdd xB_48 dX1_doStand_43) rfl rfl (xrg rfl)) <|
  xA0 (ok_aload_n (xdd xB_48 dX1_doStand_44) rfl rfl) <|
  xA1 (ok_getA (xdd xB_48 dX1_doStand_45) rfl (lk_f q403) rfl) <|
  xA1 (ok_getI (xdd xB_48 dX1_doStand_48) rfl (lk_f q528) (by decide)) <|
  xA1 (ok_ishl (xdd xB_48 dX1_doStand_51) rfl) <|
  xA0 (ok_iconst (xdd xB_48 dX1_doStand_52) rfl rfl (xrg rfl)) <|
  xA1 (ok_isub (xdd xB_48 dX1_doStand_53) rfl) <|
  xAB (ok_icmp_ne (xdd xB_48 dX1_doStand_54) rfl rfl) <|
  xA0 (ok_iconst (xdd xB_48 dX1_doStand_57) rfl rfl (xrg rfl)) <|
  xA0 (ok_goto (xdd xB_48 dX1_doStand_58) rfl) <|
  xA0 (ok_iconst (xdd xB_48 dX1_doStand_61) rfl rfl (xrg rfl)) <|
  xAR (ok_zreturn (xdd xB_48 dX1_doStand_62) rfl) <|
  xAe
theorem xe_48 {s0 : State} {A0 : Array Value} {D : va_G} {ta : Nat → ClassId} {l : Launch} : XAllC s0 A0 D ta l 48 xk_48 := ⟨xe_48_0, xe_48_1, trivial⟩
theorem xe_49_0 {s0 : State} {A0 : Array Value} {D : va_G} {ta : Nat → ClassId} {l : Launch} : XAll s0 A0 D ta l 49 xk_49_0 :=
  xA0 (ok_aload_n (xdd xB_49 dX1_gain_0) rfl rfl) <|
  xAK rfl (xC1 (ok_callV (xdd xB_49 dX1_gain_1) rfl xq_0 rfl xp_5_0 q477 q479 qs2 q111 q480) xC0) <|
  xA0 (ok_aload_n (xdd xB_49 dX1_gain_4) rfl rfl) <|
  xA0 (ok_iload_n (xdd xB_49 dX1_gain_5) rfl rfl) <|
  xAK rfl (xC1 (ok_callV (xdd xB_49 dX1_gain_6) rfl xq_0 rfl xp_11_1 q965 q967 qs27 q111 q968) xC0) <|
  xAB (ok_if_eq (xdd xB_49 dX1_gain_9) rfl rfl) <|
  xA0 (ok_aload_n (xdd xB_49 dX1_gain_12) rfl rfl) <|
  xA0 (ok_iload_n (xdd xB_49 dX1_gain_13) rfl rfl) <|
  xAK rfl (xC1 (ok_callV (xdd xB_49 dX1_gain_14) rfl xq_0 rfl xp_11_1 q965 q967 qs27 q111 q968) xC0) <|
  xAB (ok_if_eq (xdd xB_49 dX1_gain_17) rfl rfl) <|
  xA0 (ok_iload_n (xdd xB_49 dX1_gain_20) rfl rfl) <|
  xA0 (ok_iload_n (xdd xB_49 dX1_gain_21) rfl rfl) <|
  xAB (ok_icmp_ne (xdd xB_49 dX1_gain_22) rfl rfl) <|
  xA0 (ok_aload_n (xdd xB_49 dX1_gain_25) rfl rfl) <|
  xA0 (ok_iconst (xdd xB_49 dX1_gain_26) rfl rfl (xrg rfl)) <|
  xAK rfl (xC1 (ok_callV (xdd xB_49 dX1_gain_27) rfl xq_0 rfl xp_7_1 q484 q486 qs3 q111 q487) xC0) <|
  xAR (ok_ireturn (xdd xB_49 dX1_gain_30) rfl) <|
  xA0 (ok_iload_n (xdd xB_49 dX1_gain_31) rfl rfl) <|
  xAe
theorem xe_49_1 {s0 : State} {A0 : Array Value} {D : va_G} {ta : Nat → ClassId} {l : Launch} : XAll s0 A0 D ta l 49 xk_49_1 :=
  xA0 (ok_iconst (xdd xB_49 dX1_gain_32) rfl rfl (xrg rfl)) <|
  xA0 (ok_bipush (xdd xB_49 dX1_gain_33) rfl rfl (xrg rfl)) <|
  xAK rfl (xC1 (ok_callS (xdd xB_49 dX1_gain_35) rfl xp_6_3 q481 q482 q111 q483) xC0) <|
  xAB (ok_if_eq (xdd xB_49 dX1_gain_38) rfl rfl) <|
  xA0 (ok_iload (xdd xB_49 dX1_gain_41) rfl) <|
  xA0 (ok_iconst (xdd xB_49 dX1_gain_43) rfl rfl (xrg rfl)) <|
  xA0 (ok_bipush (xdd xB_49 dX1_gain_44) rfl rfl (xrg rfl)) <|
  xAK rfl (xC1 (ok_callS (xdd xB_49 dX1_gain_46) rfl xp_6_3 q481 q482 q111 q483) xC0) <|
  xAB (ok_if_ne (xdd xB_49 dX1_gain_49) rfl rfl) <|
  xA0 (ok_aload_n (xdd xB_49 dX1_gain_52) rfl rfl) <|
  xA0 (ok_iconst (xdd xB_49 dX1_gain_53) rfl rfl (xrg rfl)) <|
  xAK rfl (xC1 (ok_callV (xdd xB_49 dX1_gain_54) rfl xq_0 rfl xp_7_1 q484 q486 qs3 q111 q487) xC0) <|
  xAR (ok_ireturn (xdd xB_49 dX1_gain_57) rfl) <|
  xA0 (ok_iload (xdd xB_49 dX1_gain_58) rfl) <|
  xAB (ok_if_eq (xdd xB_49 dX1_gain_60) rfl rfl) <|
  xA0 (ok_aload_n (xdd xB_49 dX1_gain_63) rfl rfl) <|
  xAe
theorem xe_49_2 {s0 : State} {A0 : Array Value} {D : va_G} {ta : Nat → ClassId} {l : Launch} : XAll s0 A0 D ta l 49 xk_49_2 :=
  xA0 (ok_iload_n (xdd xB_49 dX1_gain_64) rfl rfl) <|
  xA0 (ok_iload (xdd xB_49 dX1_gain_65) rfl) <|
  xA0 (ok_iload_n (xdd xB_49 dX1_gain_67) rfl rfl) <|
  xA0 (ok_iload_n (xdd xB_49 dX1_gain_68) rfl rfl) <|
  xAK rfl (xC1 (ok_callV (xdd xB_49 dX1_gain_69) rfl xq_0 rfl xp_50_4 q1265 q1267 qs40 q111 q1268) xC0) <|
  xA0 (ok_goto (xdd xB_49 dX1_gain_72) rfl) <|
  xA0 (ok_aload_n (xdd xB_49 dX1_gain_75) rfl rfl) <|
  xA0 (ok_iload_n (xdd xB_49 dX1_gain_76) rfl rfl) <|
  xA0 (ok_iload_n (xdd xB_49 dX1_gain_77) rfl rfl) <|
  xA0 (ok_iload_n (xdd xB_49 dX1_gain_78) rfl rfl) <|
  xA0 (ok_iload (xdd xB_49 dX1_gain_79) rfl) <|
  xAK rfl (xC1 (ok_callV (xdd xB_49 dX1_gain_81) rfl xq_0 rfl xp_50_4 q1265 q1267 qs40 q111 q1268) xC0) <|
  xAR (ok_ireturn (xdd xB_49 dX1_gain_84) rfl) <|
  xAe
theorem xe_49 {s0 : State} {A0 : Array Value} {D : va_G} {ta : Nat → ClassId} {l : Launch} : XAllC s0 A0 D ta l 49 xk_49 := ⟨xe_49_0, xe_49_1, xe_49_2, trivial⟩
